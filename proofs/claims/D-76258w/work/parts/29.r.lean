set_option maxRecDepth 100000
theorem nm_X0_lays : yX0_lays.cls ≠ "java/lang/invoke/MethodHandle" ∧ yX0_lays.cls ≠ "java/lang/invoke/VarHandle" ∧ (parseMethodDescriptor yX0_lays.desc).map (fun d => d.parameters.length) = some 2 := by decide +kernel
def w_X0_lays_l55 (Φ : St → Int32 → Prop) (E192 : St → Nat → Prop) (E91 : St → Int32 → Int32 → Int32 → Prop) : Nat → St → Int32 → Int32 → Int32 → Int32 → Prop
  | 0, _, _, _, _, _ => False
  | n + 1, st, x1, x2, x3, x6 => ((x3 ≤ x6) → E91 st x1 x2 x3) ∧ ((¬ x3 ≤ x6) → vp_in x2 5 ∧ w_X3_get st (170 + x2.toNatClampNeg) x6 (fun (s60 : St) (r59 : Int64) => w_X0_in r59 (-20) 20 (fun (r71 : Int32) => w_X0_need s60 r71 5 (fun (s80 : St) => w_X0_lays_l55 Φ E192 E91 n s80 x1 x2 x3 (x6 + 1)) (fun (s81 : St) (a82 : Nat) => E192 s81 a82))) (fun (s61 : St) (a62 : Nat) => E192 s61 a62))
theorem t_X0_lays_l55 {θ : Th} {κ : Kx} {Ph : Ph} (hX : LX θ) {d : Nat} (hd : 6 ≤ d) (C : Cx θ κ yX0_lays cX0_lays 10 (some Jvm.ClassFile.FieldType.int) [(0, 190, 191, 1)] d) {Φ : St → Int32 → Prop} (hn : ∀ st r, Φ st r → Ph.1 st (some (.int r))) {E192 : St → Nat → Prop} {E91 : St → Int32 → Int32 → Int32 → Prop} (hE192 : ∀ (st : St) (x3 : Nat), sh st x3 = 6 → x3 < gBIG → E192 st x3 → X θ κ Ph st 192 [(0, .ref (ad θ 0)), (3, .ref (ad θ x3))] []) (hE91 : ∀ (st : St) (x1 : Int32) (x2 : Int32) (x3 : Int32), E91 st x1 x2 x3 → X θ κ Ph st 91 [(0, .ref (ad θ 0)), (1, .int x1), (2, .int x2), (3, .int x3)] []) : ∀ (n : Nat) (st : St) (x1 : Int32) (x2 : Int32) (x3 : Int32) (x6 : Int32), w_X0_lays_l55 Φ E192 E91 n st x1 x2 x3 x6 → X θ κ Ph st 55 [(0, .ref (ad θ 0)), (1, .int x1), (2, .int x2), (3, .int x3), (6, .int x6)] [] := by
  intro n
  induction n with
  | zero => intro st x1 x2 x3 x6 h; exact h.elim
  | succ n hK55 =>
    intro st x1 x2 x3 x6 h
    rw [w_X0_lays_l55] at h
    refine X_iload C dX0_lays_55 4 rfl ?_
    refine X_iload_n C dX0_lays_57 rfl 3 rfl ?_
    refine X_icmp_ge (tgt := 91) C dX0_lays_58 (by decide) (fun c55 => ?_) (fun c55 => ?_)
    · have h := h.1 c55
      refine X_sub [0, 1, 2, 3] (lo2 := [(0, _), (1, _), (2, _), (3, _)]) rfl ?_
      exact hE91 st x1 x2 x3 h
    · have h := h.2 c55
      refine X_aload_n C dX0_lays_61 rfl 0 rfl (isRV_r _) ?_
      refine X_getF (ci := 0) (j := 48) (q := (RX0, TX0, 49)) C rfl (by decide) q308 rfl dX0_lays_62 (b := 148) (LX_S hX (k := 0) rfl) (LX_F hX (k := 0) (j := 48) rfl) rfl ?_
      refine X_iload_n C dX0_lays_65 rfl 2 rfl ?_
      have g56 := h.1
      have h := h.2
      refine X_aaldF C 10 rfl (LX_S hX (k := 148) rfl) (by decide) rfl (LX_L hX (k := 148) rfl) g56 rfl (b := (170 + x2.toNatClampNeg)) (LXf_sheet hX (i := x2.toNatClampNeg) (in_lt g56)).2 dX0_lays_66 rfl ?_
      refine X_iload C dX0_lays_67 4 rfl ?_
      refine X_sh (LXf_sheet hX (i := x2.toNatClampNeg) (in_lt g56)).1 (by decide) (fun hs57 hb58 => ?_)
      refine X_callVX (ci := 3) (q := (RX3, TX3, 1)) (As := [_]) (rest := []) C rfl hs57 q546 q547 q548 q135 q549 ⟨rfl, nm_X3_get⟩ rfl dX0_lays_69 (m_X3_get (Cx_l C) hX (d := d - 1) (by omega) st (170 + x2.toNatClampNeg) x6 hs57 hb58 h) (by omega) (by decide) (Nat.le_of_ble_eq_true rfl) (fun s60 w65 hE66 hP67 => ?_) (fun s70 E68 q69 hE66 hP67 => ?_)
      rotate_left
      · rcases hP67 with ⟨rfl, a_, rfl, hb_, hs_, h⟩
        refine XT_catch C [] ⟨0, 190, 191, 1⟩ [] rfl (fun _ h => absurd h List.not_mem_nil) (by decide) (by decide) q412 q425 ?_
        refine X_astore_n C dX0_lays_191 rfl (isRV_r _) (lo2 := [(3, _), (0, _), (1, _), (2, _), (6, _)]) (by decide) rfl ?_
        refine X_sub [1, 0] (lo2 := [(0, _), (3, _)]) rfl ?_
        exact hE192 s70 a_ hs_ hb_ h
      obtain ⟨r59, rfl, h⟩ := hP67
      refine X_tls ?_
      refine X_ldc2 C q537 dX0_lays_72 ?_
      refine X_ldc2 C q538 dX0_lays_75 ?_
      refine X_callS (As := [_, _, _]) (rest := []) C q415 q416 q132 q417 nm_X0_in rfl dX0_lays_78 (m_X0_in (Cx_l C) (d := d - 1) (by omega) s60 r59 (-20) 20 h) (by omega) (by decide) (Nat.le_of_ble_eq_true rfl) (fun s77 w72 hE73 hP74 => ?_) (fun s78 E75 q76 hE73 hP74 => ?_)
      rotate_left
      · exact False.elim hP74
      obtain ⟨r71, rfl, rfl, h⟩ := hP74
      refine X_tls ?_
      refine X_iconst (v := 5) C dX0_lays_81 rfl ?_
      refine X_callS (As := [_, _]) (rest := []) C q421 q422 q132 q423 nm_X0_need rfl dX0_lays_82 (m_X0_need (Cx_l C) hX (d := d - 1) (by omega) s60 r71 5 h) (by omega) (by decide) (Nat.le_of_ble_eq_true rfl) (fun s80 w85 hE86 hP87 => ?_) (fun s90 E88 q89 hE86 hP87 => ?_)
      rotate_left
      · rcases hP87 with ⟨rfl, a_, rfl, hb_, hs_, h⟩
        refine XT_catch C [] ⟨0, 190, 191, 1⟩ [] rfl (fun _ h => absurd h List.not_mem_nil) (by decide) (by decide) q412 q425 ?_
        refine X_astore_n C dX0_lays_191 rfl (isRV_r _) (lo2 := [(3, _), (0, _), (1, _), (2, _), (6, _)]) (by decide) rfl ?_
        refine X_sub [1, 0] (lo2 := [(0, _), (3, _)]) rfl ?_
        exact hE192 s90 a_ hs_ hb_ h
      obtain ⟨rfl, h⟩ := hP87
      refine X_tln ?_
      refine X_iinc (v := (x6 + 1)) C (j := 4) dX0_lays_85 rfl rfl (lo2 := [(6, _), (0, _), (1, _), (2, _), (3, _)]) (by decide) rfl ?_
      refine X_goto (tgt := 55) C dX0_lays_88 (by decide) ?_
      refine X_sub [1, 2, 3, 4, 0] (lo2 := [(0, _), (1, _), (2, _), (3, _), (6, _)]) rfl ?_
      exact hK55 s80 x1 x2 x3 (x6 + 1) h
def w_X0_lays_b164 (Φ : St → Int32 → Prop) (K97 : St → Int32 → Int32 → Int32 → Int32 → Int32 → Prop) (st : St) (x1 : Int32) (x2 : Int32) (x3 : Int32) (x7 : Int32) (x8 : Int32) (x9 : Nat) (z0 : Int32) (z1 : Int32) : Prop := ∀ v127 : Int32, v127 = (z1 + z0) → ¬ (sI st 2 3) = 0 ∧ vp_in (x7 - x7 / (sI st 2 3) * (sI st 2 3)) 3 ∧ ∀ s131, s131 = putI st x9 ((x7 - x7 / (sI st 2 3) * (sI st 2 3)).toNatClampNeg) x8 → K97 s131 x1 x2 x3 v127 (x7 + 1)
theorem t_X0_lays_b164 {θ : Th} {κ : Kx} {Ph : Ph} (hX : LX θ) {d : Nat} (hd : 6 ≤ d) (C : Cx θ κ yX0_lays cX0_lays 10 (some Jvm.ClassFile.FieldType.int) [(0, 190, 191, 1)] d) {Φ : St → Int32 → Prop} (hn : ∀ st r, Φ st r → Ph.1 st (some (.int r))) {K97 : St → Int32 → Int32 → Int32 → Int32 → Int32 → Prop} (hK97 : ∀ (st : St) (x1 : Int32) (x2 : Int32) (x3 : Int32) (x6 : Int32) (x7 : Int32), K97 st x1 x2 x3 x6 x7 → X θ κ Ph st 97 [(0, .ref (ad θ 0)), (1, .int x1), (2, .int x2), (3, .int x3), (6, .int x6), (7, .int x7)] []) (st : St) (x1 : Int32) (x2 : Int32) (x3 : Int32) (x7 : Int32) (x8 : Int32) (x9 : Nat) (z0 : Int32) (z1 : Int32) (hs_x9 : sh st x9 = 101) (hb_x9 : x9 < gBIG) (hl_x9 : ln st x9 = 3) (h : w_X0_lays_b164 Φ K97 st x1 x2 x3 x7 x8 x9 z0 z1) : X θ κ Ph st 164 [(0, .ref (ad θ 0)), (1, .int x1), (2, .int x2), (3, .int x3), (7, .int x7), (8, .int x8), (9, .ref (ad θ x9))] [.int z0, .int z1] := by
  unfold w_X0_lays_b164 at h
  refine X_iadd C dX0_lays_164 ?_
  refine X_topi (fun v127 e128 => ?_)
  have h := h v127 e128
  refine X_istore C dX0_lays_165 (lo2 := [(6, _), (0, _), (1, _), (2, _), (3, _), (7, _), (8, _), (9, _)]) (by decide) rfl ?_
  refine X_aload C dX0_lays_167 7 rfl (isRV_r _) ?_
  refine X_iload C dX0_lays_169 5 rfl ?_
  refine X_aload_n C dX0_lays_171 rfl 1 rfl (isRV_r _) ?_
  refine X_getF (ci := 0) (j := 1) (q := (RX0, TX0, 49)) C rfl (by decide) q261 rfl dX0_lays_172 (b := 2) (LX_S hX (k := 0) rfl) (LX_F hX (k := 0) (j := 1) rfl) rfl ?_
  refine X_getNS (ci := 1) (j := 3) (q := (RX1, TX1, 10)) C rfl (by decide) q195 rfl dX0_lays_175 (LH_0 (LX_H2 hX)) (v := .int (sI st 2 3)) rfl ?_
  have g129 := h.1
  have h := h.2
  refine X_irem C dX0_lays_178 g129 ?_
  refine X_iload C dX0_lays_179 6 rfl ?_
  have g130 := h.1
  have h := h.2
  refine X_iastD C hb_x9 hs_x9 hl_x9 g130 rfl dX0_lays_181 ?_
  refine X_nm (fun s131 e132 => ?_)
  have h := h s131 e132
  have hs_x9 : sh s131 x9 = 101 := by rw [e132]; exact hs_x9
  have hl_x9 : ln s131 x9 = 3 := by rw [e132]; exact hl_x9
  refine X_iinc (v := (x7 + 1)) C (j := 5) dX0_lays_182 rfl rfl (lo2 := [(7, _), (6, _), (0, _), (1, _), (2, _), (3, _), (8, _), (9, _)]) (by decide) rfl ?_
  refine X_goto (tgt := 97) C dX0_lays_185 (by decide) ?_
  refine X_sub [2, 3, 4, 5, 1, 0] (lo2 := [(0, _), (1, _), (2, _), (3, _), (6, _), (7, _)]) rfl ?_
  exact hK97 s131 x1 x2 x3 v127 (x7 + 1) h
def w_X0_lays_l97 (Φ : St → Int32 → Prop) (E188 : St → Int32 → Prop) (E192 : St → Nat → Prop) : Nat → St → Int32 → Int32 → Int32 → Int32 → Int32 → Prop
  | 0, _, _, _, _, _, _ => False
  | n + 1, st, x1, x2, x3, x6, x7 => ((x3 ≤ x7) → E188 st x6) ∧ ((¬ x3 ≤ x7) → vp_in x2 5 ∧ w_X3_get st (170 + x2.toNatClampNeg) x7 (fun (s106 : St) (r105 : Int64) => ∀ v117 : Int32, v117 = r105.toInt32 → vp_in x1 3 ∧ ¬ (sI s106 2 3) = 0 ∧ vp_in (x7 / (sI s106 2 3)) 3 ∧ vp_in (x7 - x7 / (sI s106 2 3) * (sI s106 2 3)) 3 ∧ (((sI s106 (2 + (3 + 4 * x1.toNatClampNeg + (x7 / (sI s106 2 3)).toNatClampNeg)) (x7 - x7 / (sI s106 2 3) * (sI s106 2 3)).toNatClampNeg) ≠ v117) → w_X0_lays_b164 Φ (w_X0_lays_l97 Φ E188 E192 n) s106 x1 x2 x3 x7 v117 (2 + (3 + 4 * x1.toNatClampNeg + (x7 / (sI s106 2 3)).toNatClampNeg)) 1 x6) ∧ (((sI s106 (2 + (3 + 4 * x1.toNatClampNeg + (x7 / (sI s106 2 3)).toNatClampNeg)) (x7 - x7 / (sI s106 2 3) * (sI s106 2 3)).toNatClampNeg) = v117) → w_X0_lays_b164 Φ (w_X0_lays_l97 Φ E188 E192 n) s106 x1 x2 x3 x7 v117 (2 + (3 + 4 * x1.toNatClampNeg + (x7 / (sI s106 2 3)).toNatClampNeg)) 0 x6)) (fun (s107 : St) (a108 : Nat) => E192 s107 a108))
theorem t_X0_lays_l97 {θ : Th} {κ : Kx} {Ph : Ph} (hX : LX θ) {d : Nat} (hd : 6 ≤ d) (C : Cx θ κ yX0_lays cX0_lays 10 (some Jvm.ClassFile.FieldType.int) [(0, 190, 191, 1)] d) {Φ : St → Int32 → Prop} (hn : ∀ st r, Φ st r → Ph.1 st (some (.int r))) {E188 : St → Int32 → Prop} {E192 : St → Nat → Prop} (hE188 : ∀ (st : St) (x6 : Int32), E188 st x6 → X θ κ Ph st 188 [(0, .ref (ad θ 0)), (6, .int x6)] []) (hE192 : ∀ (st : St) (x3 : Nat), sh st x3 = 6 → x3 < gBIG → E192 st x3 → X θ κ Ph st 192 [(0, .ref (ad θ 0)), (3, .ref (ad θ x3))] []) : ∀ (n : Nat) (st : St) (x1 : Int32) (x2 : Int32) (x3 : Int32) (x6 : Int32) (x7 : Int32), w_X0_lays_l97 Φ E188 E192 n st x1 x2 x3 x6 x7 → X θ κ Ph st 97 [(0, .ref (ad θ 0)), (1, .int x1), (2, .int x2), (3, .int x3), (6, .int x6), (7, .int x7)] [] := by
  intro n
  induction n with
  | zero => intro st x1 x2 x3 x6 x7 h; exact h.elim
  | succ n hK97 =>
    intro st x1 x2 x3 x6 x7 h
    rw [w_X0_lays_l97] at h
    refine X_iload C dX0_lays_97 5 rfl ?_
    refine X_iload_n C dX0_lays_99 rfl 3 rfl ?_
    refine X_icmp_ge (tgt := 188) C dX0_lays_100 (by decide) (fun c101 => ?_) (fun c101 => ?_)
    · have h := h.1 c101
      refine X_sub [0, 4] (lo2 := [(0, _), (6, _)]) rfl ?_
      exact hE188 st x6 h
    · have h := h.2 c101
      refine X_aload_n C dX0_lays_103 rfl 0 rfl (isRV_r _) ?_
      refine X_getF (ci := 0) (j := 48) (q := (RX0, TX0, 49)) C rfl (by decide) q308 rfl dX0_lays_104 (b := 148) (LX_S hX (k := 0) rfl) (LX_F hX (k := 0) (j := 48) rfl) rfl ?_
      refine X_iload_n C dX0_lays_107 rfl 2 rfl ?_
      have g102 := h.1
      have h := h.2
      refine X_aaldF C 10 rfl (LX_S hX (k := 148) rfl) (by decide) rfl (LX_L hX (k := 148) rfl) g102 rfl (b := (170 + x2.toNatClampNeg)) (LXf_sheet hX (i := x2.toNatClampNeg) (in_lt g102)).2 dX0_lays_108 rfl ?_
      refine X_iload C dX0_lays_109 5 rfl ?_
      refine X_sh (LXf_sheet hX (i := x2.toNatClampNeg) (in_lt g102)).1 (by decide) (fun hs103 hb104 => ?_)
      refine X_callVX (ci := 3) (q := (RX3, TX3, 1)) (As := [_]) (rest := []) C rfl hs103 q546 q547 q548 q135 q549 ⟨rfl, nm_X3_get⟩ rfl dX0_lays_111 (m_X3_get (Cx_l C) hX (d := d - 1) (by omega) st (170 + x2.toNatClampNeg) x7 hs103 hb104 h) (by omega) (by decide) (Nat.le_of_ble_eq_true rfl) (fun s106 w111 hE112 hP113 => ?_) (fun s116 E114 q115 hE112 hP113 => ?_)
      rotate_left
      · rcases hP113 with ⟨rfl, a_, rfl, hb_, hs_, h⟩
        refine XT_catch C [] ⟨0, 190, 191, 1⟩ [] rfl (fun _ h => absurd h List.not_mem_nil) (by decide) (by decide) q412 q425 ?_
        refine X_astore_n C dX0_lays_191 rfl (isRV_r _) (lo2 := [(3, _), (0, _), (1, _), (2, _), (6, _), (7, _)]) (by decide) rfl ?_
        refine X_sub [1, 0] (lo2 := [(0, _), (3, _)]) rfl ?_
        exact hE192 s116 a_ hs_ hb_ h
      obtain ⟨r105, rfl, h⟩ := hP113
      refine X_tls ?_
      refine X_l2i C dX0_lays_114 ?_
      refine X_topi (fun v117 e118 => ?_)
      have h := h v117 e118
      refine X_istore C dX0_lays_115 (lo2 := [(8, _), (0, _), (1, _), (2, _), (3, _), (6, _), (7, _)]) (by decide) rfl ?_
      refine X_aload_n C dX0_lays_117 rfl 1 rfl (isRV_r _) ?_
      refine X_getF (ci := 0) (j := 1) (q := (RX0, TX0, 49)) C rfl (by decide) q261 rfl dX0_lays_118 (b := 2) (LX_S hX (k := 0) rfl) (LX_F hX (k := 0) (j := 1) rfl) rfl ?_
      refine X_getNF (ci := 1) (j := 5) (q := (RX1, TX1, 10)) C rfl (by decide) q199 rfl dX0_lays_121 (b := (2 + 1)) (LH_0 (LX_H2 hX)) (LH_F (LX_H2 hX) (k := 0) (j := 5) rfl) rfl ?_
      refine X_iload_n C dX0_lays_124 rfl 2 rfl ?_
      have g119 := h.1
      have h := h.2
      refine X_aaldF C 7 rfl (LH_S (LX_H2 hX) (k := 1) rfl) (by decide) rfl (LH_L (LX_H2 hX) (k := 1) rfl) g119 rfl (b := (2 + (2 + 4 * x1.toNatClampNeg))) (LHf_sub (LX_H2 hX) (i := x1.toNatClampNeg) (in_lt g119)).2.2 dX0_lays_125 rfl ?_
      refine X_iload C dX0_lays_126 6 rfl ?_
      refine X_aload_n C dX0_lays_128 rfl 1 rfl (isRV_r _) ?_
      refine X_getF (ci := 0) (j := 1) (q := (RX0, TX0, 49)) C rfl (by decide) q261 rfl dX0_lays_129 (b := 2) (LX_S hX (k := 0) rfl) (LX_F hX (k := 0) (j := 1) rfl) rfl ?_
      refine X_getNS (ci := 1) (j := 3) (q := (RX1, TX1, 10)) C rfl (by decide) q195 rfl dX0_lays_132 (LH_0 (LX_H2 hX)) (v := .int (sI s106 2 3)) rfl ?_
      have g120 := h.1
      have h := h.2
      refine X_idiv C dX0_lays_135 g120 ?_
      have g121 := h.1
      have h := h.2
      refine X_aaldF C 6 rfl (LHf_sub (LX_H2 hX) (i := x1.toNatClampNeg) (in_lt g119)).1 (by decide) rfl (LHf_sub (LX_H2 hX) (i := x1.toNatClampNeg) (in_lt g119)).2.1 g121 rfl (b := (2 + (3 + 4 * x1.toNatClampNeg + (x7 / (sI s106 2 3)).toNatClampNeg))) (LHf_game (LX_H2 hX) (i := x1.toNatClampNeg) (j := (x7 / (sI s106 2 3)).toNatClampNeg) (in_lt g119) (in_lt g121)).2.2 dX0_lays_136 rfl ?_
      refine X_astore C dX0_lays_137 (isRV_r _) (lo2 := [(9, _), (8, _), (0, _), (1, _), (2, _), (3, _), (6, _), (7, _)]) (by decide) rfl ?_
      refine X_iload C dX0_lays_139 6 rfl ?_
      refine X_aload C dX0_lays_141 0 rfl (isRV_r _) ?_
      refine X_iload C dX0_lays_143 7 rfl ?_
      refine X_aload_n C dX0_lays_145 rfl 2 rfl (isRV_r _) ?_
      refine X_getF (ci := 0) (j := 1) (q := (RX0, TX0, 49)) C rfl (by decide) q261 rfl dX0_lays_146 (b := 2) (LX_S hX (k := 0) rfl) (LX_F hX (k := 0) (j := 1) rfl) rfl ?_
      refine X_getNS (ci := 1) (j := 3) (q := (RX1, TX1, 10)) C rfl (by decide) q195 rfl dX0_lays_149 (LH_0 (LX_H2 hX)) (v := .int (sI s106 2 3)) rfl ?_
      refine X_irem C dX0_lays_152 g120 ?_
      have g122 := h.1
      have h := h.2
      refine X_ialdS C (LHf_game (LX_H2 hX) (i := x1.toNatClampNeg) (j := (x7 / (sI s106 2 3)).toNatClampNeg) (in_lt g119) (in_lt g121)).1 (LHf_game (LX_H2 hX) (i := x1.toNatClampNeg) (j := (x7 / (sI s106 2 3)).toNatClampNeg) (in_lt g119) (in_lt g121)).2.1 g122 rfl dX0_lays_153 ?_
      refine X_iload C dX0_lays_154 1 rfl ?_
      refine X_icmp_ne (tgt := 163) C dX0_lays_156 (by decide) (fun c123 => ?_) (fun c123 => ?_)
      · have h := h.1 c123
        refine X_iconst (v := 1) C dX0_lays_163 rfl ?_
        refine X_shl (LHf_game (LX_H2 hX) (i := x1.toNatClampNeg) (j := (x7 / (sI s106 2 3)).toNatClampNeg) (in_lt g119) (in_lt g121)).1 (by decide) (LHf_game (LX_H2 hX) (i := x1.toNatClampNeg) (j := (x7 / (sI s106 2 3)).toNatClampNeg) (in_lt g119) (in_lt g121)).2.1 (fun hs124 hl126 hb125 => ?_)
        refine X_sub [2, 3, 4, 5, 7, 1, 0] (lo2 := [(0, _), (1, _), (2, _), (3, _), (7, _), (8, _), (9, _)]) rfl ?_
        exact t_X0_lays_b164 hX hd C hn hK97 s106 x1 x2 x3 x7 v117 (2 + (3 + 4 * x1.toNatClampNeg + (x7 / (sI s106 2 3)).toNatClampNeg)) 1 x6 hs124 hb125 hl126 h
      · have h := h.2 c123
        refine X_iconst (v := 0) C dX0_lays_159 rfl ?_
        refine X_goto (tgt := 164) C dX0_lays_160 (by decide) ?_
        refine X_shl (LHf_game (LX_H2 hX) (i := x1.toNatClampNeg) (j := (x7 / (sI s106 2 3)).toNatClampNeg) (in_lt g119) (in_lt g121)).1 (by decide) (LHf_game (LX_H2 hX) (i := x1.toNatClampNeg) (j := (x7 / (sI s106 2 3)).toNatClampNeg) (in_lt g119) (in_lt g121)).2.1 (fun hs133 hl135 hb134 => ?_)
        refine X_sub [2, 3, 4, 5, 7, 1, 0] (lo2 := [(0, _), (1, _), (2, _), (3, _), (7, _), (8, _), (9, _)]) rfl ?_
        exact t_X0_lays_b164 hX hd C hn hK97 s106 x1 x2 x3 x7 v117 (2 + (3 + 4 * x1.toNatClampNeg + (x7 / (sI s106 2 3)).toNatClampNeg)) 0 x6 hs133 hb134 hl135 h
def w_X0_lays_b188 (Φ : St → Int32 → Prop) (st : St) (x6 : Int32) : Prop := Φ st x6
theorem t_X0_lays_b188 {θ : Th} {κ : Kx} {Ph : Ph} (hX : LX θ) {d : Nat} (hd : 6 ≤ d) (C : Cx θ κ yX0_lays cX0_lays 10 (some Jvm.ClassFile.FieldType.int) [(0, 190, 191, 1)] d) {Φ : St → Int32 → Prop} (hn : ∀ st r, Φ st r → Ph.1 st (some (.int r))) (st : St) (x6 : Int32) (h : w_X0_lays_b188 Φ st x6) : X θ κ Ph st 188 [(0, .ref (ad θ 0)), (6, .int x6)] [] := by
  unfold w_X0_lays_b188 at h
  refine X_iload C dX0_lays_188 1 rfl ?_
  exact X_iret C rfl dX0_lays_190 (hn st _ h)
def w_X0_lays_b91 (Φ : St → Int32 → Prop) (st : St) (x1 : Int32) (x2 : Int32) (x3 : Int32) : Prop := w_X0_lays_l97 Φ (fun (s136 : St) (x6 : Int32) => w_X0_lays_b188 Φ s136 x6) (fun (s137 : St) (x3 : Nat) => w_X0_answers s137 x3 (fun (s139 : St) (r138 : Int32) => Φ s139 r138)) gFU st x1 x2 x3 0 0
theorem t_X0_lays_b91 {θ : Th} {κ : Kx} {Ph : Ph} (hX : LX θ) {d : Nat} (hd : 6 ≤ d) (C : Cx θ κ yX0_lays cX0_lays 10 (some Jvm.ClassFile.FieldType.int) [(0, 190, 191, 1)] d) {Φ : St → Int32 → Prop} (hn : ∀ st r, Φ st r → Ph.1 st (some (.int r))) (st : St) (x1 : Int32) (x2 : Int32) (x3 : Int32) (h : w_X0_lays_b91 Φ st x1 x2 x3) : X θ κ Ph st 91 [(0, .ref (ad θ 0)), (1, .int x1), (2, .int x2), (3, .int x3)] [] := by
  unfold w_X0_lays_b91 at h
  refine X_iconst (v := 0) C dX0_lays_91 rfl ?_
  refine X_istore C dX0_lays_92 (lo2 := [(6, _), (0, _), (1, _), (2, _), (3, _)]) (by decide) rfl ?_
  refine X_iconst (v := 0) C dX0_lays_94 rfl ?_
  refine X_istore C dX0_lays_95 (lo2 := [(7, _), (6, _), (0, _), (1, _), (2, _), (3, _)]) (by decide) rfl ?_
  refine X_sub [2, 3, 4, 5, 1, 0] (lo2 := [(0, _), (1, _), (2, _), (3, _), (6, _), (7, _)]) rfl ?_
  refine t_X0_lays_l97 hX hd C hn ?_ ?_ gFU st x1 x2 x3 0 0 h
  · intro s136 x6 h
    exact t_X0_lays_b188 hX hd C hn s136 x6 h
  · intro s137 x3 hs_x3 hb_x3 h
    refine X_aload_n C dX0_lays_192 rfl 0 rfl (isRV_r _) ?_
    refine X_aload_n C dX0_lays_193 rfl 1 rfl (isRV_r _) ?_
    refine X_callVS (ci := 0) (q := (RX0, TX0, 49)) (As := [_]) (rest := []) C rfl (LX_S hX (k := 0) rfl) q512 q514 qs4 q132 q515 ⟨rfl, nm_X0_answers⟩ rfl dX0_lays_194 (m_X0_answers (Cx_l C) hX (d := d - 1) (by omega) s137 x3 hs_x3 hb_x3 h) (by omega) (by decide) (Nat.le_of_ble_eq_true rfl) (fun s139 w140 hE141 hP142 => ?_) (fun s145 E143 q144 hE141 hP142 => ?_)
    rotate_left
    · exact False.elim hP142
    obtain ⟨r138, rfl, h⟩ := hP142
    refine X_tls ?_
    have hs_x3 := Ext_sh hE141 hs_x3 (by decide)
    exact X_iret C rfl dX0_lays_197 (hn s139 _ h)
def w_X0_lays_b19 (Φ : St → Int32 → Prop) (st : St) (x1 : Int32) (x2 : Int32) (z0 : Int32) : Prop := w_X0_must st z0 (fun (s11 : St) => ∀ v30 : Int32, v30 = ((sI s11 2 2) * (sI s11 2 3)) → vp_in x2 5 ∧ w_X3_get s11 (170 + x2.toNatClampNeg) (v30 - 1) (fun (s36 : St) (r35 : Int64) => w_X0_lays_l55 Φ (fun (s91 : St) (x3 : Nat) => w_X0_answers s91 x3 (fun (s93 : St) (r92 : Int32) => Φ s93 r92)) (fun (s100 : St) (x1 : Int32) (x2 : Int32) (x3 : Int32) => w_X0_lays_b91 Φ s100 x1 x2 x3) gFU s36 x1 x2 v30 0) (fun (s37 : St) (a38 : Nat) => w_X0_answers s37 a38 (fun (s42 : St) (r41 : Int32) => Φ s42 r41))) (fun (s12 : St) (a13 : Nat) => w_X0_answers s12 a13 (fun (s17 : St) (r16 : Int32) => Φ s17 r16))
theorem t_X0_lays_b19 {θ : Th} {κ : Kx} {Ph : Ph} (hX : LX θ) {d : Nat} (hd : 6 ≤ d) (C : Cx θ κ yX0_lays cX0_lays 10 (some Jvm.ClassFile.FieldType.int) [(0, 190, 191, 1)] d) {Φ : St → Int32 → Prop} (hn : ∀ st r, Φ st r → Ph.1 st (some (.int r))) (st : St) (x1 : Int32) (x2 : Int32) (z0 : Int32) (h : w_X0_lays_b19 Φ st x1 x2 z0) : X θ κ Ph st 19 [(0, .ref (ad θ 0)), (1, .int x1), (2, .int x2)] [.int z0] := by
  unfold w_X0_lays_b19 at h
  refine X_callS (As := [_]) (rest := []) C q418 q419 q132 q420 nm_X0_must rfl dX0_lays_19 (m_X0_must (Cx_l C) hX (d := d - 1) (by omega) st z0 h) (by omega) (by decide) (Nat.le_of_ble_eq_true rfl) (fun s11 w24 hE25 hP26 => ?_) (fun s29 E27 q28 hE25 hP26 => ?_)
  rotate_left
  · rcases hP26 with ⟨rfl, a_, rfl, hb_, hs_, h⟩
    refine XT_catch C [] ⟨0, 190, 191, 1⟩ [] rfl (fun _ h => absurd h List.not_mem_nil) (by decide) (by decide) q412 q425 ?_
    refine X_astore_n C dX0_lays_191 rfl (isRV_r _) (lo2 := [(3, _), (0, _), (1, _), (2, _)]) (by decide) rfl ?_
    refine X_aload_n C dX0_lays_192 rfl 1 rfl (isRV_r _) ?_
    refine X_aload_n C dX0_lays_193 rfl 0 rfl (isRV_r _) ?_
    refine X_callVS (ci := 0) (q := (RX0, TX0, 49)) (As := [_]) (rest := []) C rfl (LX_S hX (k := 0) rfl) q512 q514 qs4 q132 q515 ⟨rfl, nm_X0_answers⟩ rfl dX0_lays_194 (m_X0_answers (Cx_l C) hX (d := d - 1) (by omega) s29 a_ hs_ hb_ h) (by omega) (by decide) (Nat.le_of_ble_eq_true rfl) (fun s17 w18 hE19 hP20 => ?_) (fun s23 E21 q22 hE19 hP20 => ?_)
    rotate_left
    · exact False.elim hP20
    obtain ⟨r16, rfl, h⟩ := hP20
    refine X_tls ?_
    have hs_ := Ext_sh hE19 hs_ (by decide)
    exact X_iret C rfl dX0_lays_197 (hn s17 _ h)
  obtain ⟨rfl, h⟩ := hP26
  refine X_tln ?_
  refine X_aload_n C dX0_lays_22 rfl 0 rfl (isRV_r _) ?_
  refine X_getF (ci := 0) (j := 1) (q := (RX0, TX0, 49)) C rfl (by decide) q261 rfl dX0_lays_23 (b := 2) (LX_S hX (k := 0) rfl) (LX_F hX (k := 0) (j := 1) rfl) rfl ?_
  refine X_getNS (ci := 1) (j := 2) (q := (RX1, TX1, 10)) C rfl (by decide) q193 rfl dX0_lays_26 (LH_0 (LX_H2 hX)) (v := .int (sI s11 2 2)) rfl ?_
  refine X_aload_n C dX0_lays_29 rfl 0 rfl (isRV_r _) ?_
  refine X_getF (ci := 0) (j := 1) (q := (RX0, TX0, 49)) C rfl (by decide) q261 rfl dX0_lays_30 (b := 2) (LX_S hX (k := 0) rfl) (LX_F hX (k := 0) (j := 1) rfl) rfl ?_
  refine X_getNS (ci := 1) (j := 3) (q := (RX1, TX1, 10)) C rfl (by decide) q195 rfl dX0_lays_33 (LH_0 (LX_H2 hX)) (v := .int (sI s11 2 3)) rfl ?_
  refine X_imul C dX0_lays_36 ?_
  refine X_topi (fun v30 e31 => ?_)
  have h := h v30 e31
  refine X_istore_n C dX0_lays_37 rfl (lo2 := [(3, _), (0, _), (1, _), (2, _)]) (by decide) rfl ?_
  refine X_aload_n C dX0_lays_38 rfl 1 rfl (isRV_r _) ?_
  refine X_getF (ci := 0) (j := 48) (q := (RX0, TX0, 49)) C rfl (by decide) q308 rfl dX0_lays_39 (b := 148) (LX_S hX (k := 0) rfl) (LX_F hX (k := 0) (j := 48) rfl) rfl ?_
  refine X_iload_n C dX0_lays_42 rfl 3 rfl ?_
  have g32 := h.1
  have h := h.2
  refine X_aaldF C 10 rfl (LX_S hX (k := 148) rfl) (by decide) rfl (LX_L hX (k := 148) rfl) g32 rfl (b := (170 + x2.toNatClampNeg)) (LXf_sheet hX (i := x2.toNatClampNeg) (in_lt g32)).2 dX0_lays_43 rfl ?_
  refine X_iload_n C dX0_lays_44 rfl 0 rfl ?_
  refine X_iconst (v := 1) C dX0_lays_45 rfl ?_
  refine X_isub C dX0_lays_46 ?_
  refine X_sh (LXf_sheet hX (i := x2.toNatClampNeg) (in_lt g32)).1 (by decide) (fun hs33 hb34 => ?_)
  refine X_callVX (ci := 3) (q := (RX3, TX3, 1)) (As := [_]) (rest := []) C rfl hs33 q546 q547 q548 q135 q549 ⟨rfl, nm_X3_get⟩ rfl dX0_lays_47 (m_X3_get (Cx_l C) hX (d := d - 1) (by omega) s11 (170 + x2.toNatClampNeg) (v30 - 1) hs33 hb34 h) (by omega) (by decide) (Nat.le_of_ble_eq_true rfl) (fun s36 w49 hE50 hP51 => ?_) (fun s54 E52 q53 hE50 hP51 => ?_)
  rotate_left
  · rcases hP51 with ⟨rfl, a_, rfl, hb_, hs_, h⟩
    refine XT_catch C [] ⟨0, 190, 191, 1⟩ [] rfl (fun _ h => absurd h List.not_mem_nil) (by decide) (by decide) q412 q425 ?_
    refine X_astore_n C dX0_lays_191 rfl (isRV_r _) (lo2 := [(3, _), (0, _), (1, _), (2, _)]) (by decide) rfl ?_
    refine X_aload_n C dX0_lays_192 rfl 1 rfl (isRV_r _) ?_
    refine X_aload_n C dX0_lays_193 rfl 0 rfl (isRV_r _) ?_
    refine X_callVS (ci := 0) (q := (RX0, TX0, 49)) (As := [_]) (rest := []) C rfl (LX_S hX (k := 0) rfl) q512 q514 qs4 q132 q515 ⟨rfl, nm_X0_answers⟩ rfl dX0_lays_194 (m_X0_answers (Cx_l C) hX (d := d - 1) (by omega) s54 a_ hs_ hb_ h) (by omega) (by decide) (Nat.le_of_ble_eq_true rfl) (fun s42 w43 hE44 hP45 => ?_) (fun s48 E46 q47 hE44 hP45 => ?_)
    rotate_left
    · exact False.elim hP45
    obtain ⟨r41, rfl, h⟩ := hP45
    refine X_tls ?_
    have hs_ := Ext_sh hE44 hs_ (by decide)
    exact X_iret C rfl dX0_lays_197 (hn s42 _ h)
  obtain ⟨r35, rfl, h⟩ := hP51
  refine X_tls ?_
  refine X_lstore C dX0_lays_50 (lo2 := [(4, _), (3, _), (0, _), (1, _), (2, _)]) (by decide) rfl ?_
  refine X_iconst (v := 0) C dX0_lays_52 rfl ?_
  refine X_istore C dX0_lays_53 (lo2 := [(6, _), (4, _), (3, _), (0, _), (1, _), (2, _)]) (by decide) rfl ?_
  refine X_sub [3, 4, 5, 2, 0] (lo2 := [(0, _), (1, _), (2, _), (3, _), (6, _)]) rfl ?_
  refine t_X0_lays_l55 hX hd C hn ?_ ?_ gFU s36 x1 x2 v30 0 h
  · intro s91 x3 hs_x3 hb_x3 h
    refine X_aload_n C dX0_lays_192 rfl 0 rfl (isRV_r _) ?_
    refine X_aload_n C dX0_lays_193 rfl 1 rfl (isRV_r _) ?_
    refine X_callVS (ci := 0) (q := (RX0, TX0, 49)) (As := [_]) (rest := []) C rfl (LX_S hX (k := 0) rfl) q512 q514 qs4 q132 q515 ⟨rfl, nm_X0_answers⟩ rfl dX0_lays_194 (m_X0_answers (Cx_l C) hX (d := d - 1) (by omega) s91 x3 hs_x3 hb_x3 h) (by omega) (by decide) (Nat.le_of_ble_eq_true rfl) (fun s93 w94 hE95 hP96 => ?_) (fun s99 E97 q98 hE95 hP96 => ?_)
    rotate_left
    · exact False.elim hP96
    obtain ⟨r92, rfl, h⟩ := hP96
    refine X_tls ?_
    have hs_x3 := Ext_sh hE95 hs_x3 (by decide)
    exact X_iret C rfl dX0_lays_197 (hn s93 _ h)
  · intro s100 x1 x2 x3 h
    exact t_X0_lays_b91 hX hd C hn s100 x1 x2 x3 h
def w_X0_lays_b18 (Φ : St → Int32 → Prop) (st : St) (x1 : Int32) (x2 : Int32) : Prop := w_X0_lays_b19 Φ st x1 x2 0
theorem t_X0_lays_b18 {θ : Th} {κ : Kx} {Ph : Ph} (hX : LX θ) {d : Nat} (hd : 6 ≤ d) (C : Cx θ κ yX0_lays cX0_lays 10 (some Jvm.ClassFile.FieldType.int) [(0, 190, 191, 1)] d) {Φ : St → Int32 → Prop} (hn : ∀ st r, Φ st r → Ph.1 st (some (.int r))) (st : St) (x1 : Int32) (x2 : Int32) (h : w_X0_lays_b18 Φ st x1 x2) : X θ κ Ph st 18 [(0, .ref (ad θ 0)), (1, .int x1), (2, .int x2)] [] := by
  unfold w_X0_lays_b18 at h
  refine X_iconst (v := 0) C dX0_lays_18 rfl ?_
  exact t_X0_lays_b19 hX hd C hn st x1 x2 0 h
def w_X0_lays (st : St) (p1 : Int32) (p2 : Int32) (Φ : St → Int32 → Prop) : Prop := w_X0_isPlace p1 (fun (r1 : Int32) => ((r1 = 0) → w_X0_lays_b18 Φ st p1 p2) ∧ ((¬ r1 = 0) → w_X0_isSheet p2 (fun (r146 : Int32) => ((r146 = 0) → w_X0_lays_b18 Φ st p1 p2) ∧ ((¬ r146 = 0) → w_X0_lays_b19 Φ st p1 p2 1))))
theorem e_X0_lays : plainFor yX0_lays = true := plainFor_of_name (by decide +kernel)
theorem m_X0_lays {θ : Th} {l : Launch} (hl0 : l.stackTraces = false) (hX : LX θ) {d : Nat} (hd : 6 ≤ d) (st : St) (p1 : Int32) (p2 : Int32) {Φ : St → Int32 → Prop} (h : w_X0_lays st p1 p2 Φ) : Ct θ l yX0_lays (wsW_ yX0_lays cX0_lays 10 (some Jvm.ClassFile.FieldType.int) [(0, 190, 191, 1)]) d [.ref (ad θ 0), .int p1, .int p2] st (pI Φ, noX) := by
  refine Ct_entryW hl0 e_X0_lays (Nat.le_of_ble_eq_true rfl) (fun κ hκ _ C => ?_)
  have hn : ∀ st r, Φ st r → ((pI Φ, noX) : Ph).1 st (some (.int r)) := fun st r q => ⟨r, rfl, q⟩
  change X _ _ _ _ _ [(0, .ref (ad θ 0)), (1, .int p1), (2, .int p2)] _
  unfold w_X0_lays at h
  refine X_iload_n C dX0_lays_0 rfl 1 rfl ?_
  refine X_callS (As := [_]) (rest := []) C q534 q535 q132 q536 nm_X0_isPlace rfl dX0_lays_1 (m_X0_isPlace (Cx_l C) (d := d - 1) (by omega) st p1 h) (by omega) (by decide) (Nat.le_of_ble_eq_true rfl) (fun s7 w2 hE3 hP4 => ?_) (fun s8 E5 q6 hE3 hP4 => ?_)
  rotate_left
  · exact False.elim hP4
  obtain ⟨r1, rfl, rfl, h⟩ := hP4
  refine X_tls ?_
  refine X_if_eq (tgt := 18) C dX0_lays_4 (by decide) (fun c9 => ?_) (fun c9 => ?_)
  · have h := h.1 c9
    exact t_X0_lays_b18 hX hd C hn st p1 p2 h
  · have h := h.2 c9
    refine X_iload_n C dX0_lays_7 rfl 2 rfl ?_
    refine X_callS (As := [_]) (rest := []) C q543 q544 q132 q545 nm_X0_isSheet rfl dX0_lays_8 (m_X0_isSheet (Cx_l C) (d := d - 1) (by omega) st p2 h) (by omega) (by decide) (Nat.le_of_ble_eq_true rfl) (fun s152 w147 hE148 hP149 => ?_) (fun s153 E150 q151 hE148 hP149 => ?_)
    rotate_left
    · exact False.elim hP149
    obtain ⟨r146, rfl, rfl, h⟩ := hP149
    refine X_tls ?_
    refine X_if_eq (tgt := 18) C dX0_lays_11 (by decide) (fun c154 => ?_) (fun c154 => ?_)
    · have h := h.1 c154
      exact t_X0_lays_b18 hX hd C hn st p1 p2 h
    · have h := h.2 c154
      refine X_iconst (v := 1) C dX0_lays_14 rfl ?_
      refine X_goto (tgt := 19) C dX0_lays_15 (by decide) ?_
      exact t_X0_lays_b19 hX hd C hn st p1 p2 1 h

theorem nm_X0_posterior : yX0_posterior.cls ≠ "java/lang/invoke/MethodHandle" ∧ yX0_posterior.cls ≠ "java/lang/invoke/VarHandle" ∧ (parseMethodDescriptor yX0_posterior.desc).map (fun d => d.parameters.length) = some 3 := by decide +kernel
def w_X0_posterior_l59 (Φ : St → Int64 → Prop) (E130 : St → Int32 → Int32 → Int32 → Int64 → Prop) (E172 : St → Nat → Prop) : Nat → St → Int32 → Int32 → Int32 → Int64 → Int32 → Prop
  | 0, _, _, _, _, _, _ => False
  | n + 1, st, x1, x2, x3, x6, x8 => (((sI st 2 0) ≤ x8) → E130 st x1 x2 x3 x6) ∧ ((¬ (sI st 2 0) ≤ x8) → vp_in x1 5 ∧ w_X3_get st (170 + x1.toNatClampNeg) x8 (fun (s58 : St) (r57 : Int64) => w_X0_in r57 0 999 (fun (r69 : Int32) => w_X0_need s58 r69 5 (fun (s78 : St) => vp_in (sI s78 2 4) 15 ∧ vp_in x8 3 ∧ ∀ v91 : Int64, v91 = (x6 + (r57 * (sI s78 (2 + (16 + (sI s78 2 4).toNatClampNeg)) x8.toNatClampNeg).toInt64)) → w_X0_posterior_l59 Φ E130 E172 n s78 x1 x2 x3 v91 (x8 + 1)) (fun (s79 : St) (a80 : Nat) => E172 s79 a80))) (fun (s59 : St) (a60 : Nat) => E172 s59 a60))
theorem t_X0_posterior_l59 {θ : Th} {κ : Kx} {Ph : Ph} (hX : LX θ) {d : Nat} (hd : 6 ≤ d) (C : Cx θ κ yX0_posterior cX0_posterior 11 (some Jvm.ClassFile.FieldType.long) [(0, 169, 170, 1)] d) {Φ : St → Int64 → Prop} (hn : ∀ st r, Φ st r → Ph.1 st (some (.long r))) {E130 : St → Int32 → Int32 → Int32 → Int64 → Prop} {E172 : St → Nat → Prop} (hE130 : ∀ (st : St) (x1 : Int32) (x2 : Int32) (x3 : Int32) (x6 : Int64), E130 st x1 x2 x3 x6 → X θ κ Ph st 130 [(0, .ref (ad θ 0)), (1, .int x1), (2, .int x2), (3, .int x3), (6, .long x6)] []) (hE172 : ∀ (st : St) (x4 : Nat), sh st x4 = 6 → x4 < gBIG → E172 st x4 → X θ κ Ph st 172 [(0, .ref (ad θ 0)), (4, .ref (ad θ x4))] []) : ∀ (n : Nat) (st : St) (x1 : Int32) (x2 : Int32) (x3 : Int32) (x6 : Int64) (x8 : Int32), w_X0_posterior_l59 Φ E130 E172 n st x1 x2 x3 x6 x8 → X θ κ Ph st 59 [(0, .ref (ad θ 0)), (1, .int x1), (2, .int x2), (3, .int x3), (6, .long x6), (8, .int x8)] [] := by
  intro n
  induction n with
  | zero => intro st x1 x2 x3 x6 x8 h; exact h.elim
  | succ n hK59 =>
    intro st x1 x2 x3 x6 x8 h
    rw [w_X0_posterior_l59] at h
    refine X_iload C dX0_posterior_59 5 rfl ?_
    refine X_aload_n C dX0_posterior_61 rfl 0 rfl (isRV_r _) ?_
    refine X_getF (ci := 0) (j := 1) (q := (RX0, TX0, 49)) C rfl (by decide) q261 rfl dX0_posterior_62 (b := 2) (LX_S hX (k := 0) rfl) (LX_F hX (k := 0) (j := 1) rfl) rfl ?_
    refine X_getNS (ci := 1) (j := 0) (q := (RX1, TX1, 10)) C rfl (by decide) q189 rfl dX0_posterior_65 (LH_0 (LX_H2 hX)) (v := .int (sI st 2 0)) rfl ?_
    refine X_icmp_ge (tgt := 130) C dX0_posterior_68 (by decide) (fun c53 => ?_) (fun c53 => ?_)
    · have h := h.1 c53
      refine X_sub [0, 1, 2, 3, 4] (lo2 := [(0, _), (1, _), (2, _), (3, _), (6, _)]) rfl ?_
      exact hE130 st x1 x2 x3 x6 h
    · have h := h.2 c53
      refine X_aload_n C dX0_posterior_71 rfl 0 rfl (isRV_r _) ?_
      refine X_getF (ci := 0) (j := 48) (q := (RX0, TX0, 49)) C rfl (by decide) q308 rfl dX0_posterior_72 (b := 148) (LX_S hX (k := 0) rfl) (LX_F hX (k := 0) (j := 48) rfl) rfl ?_
      refine X_iload_n C dX0_posterior_75 rfl 1 rfl ?_
      have g54 := h.1
      have h := h.2
      refine X_aaldF C 10 rfl (LX_S hX (k := 148) rfl) (by decide) rfl (LX_L hX (k := 148) rfl) g54 rfl (b := (170 + x1.toNatClampNeg)) (LXf_sheet hX (i := x1.toNatClampNeg) (in_lt g54)).2 dX0_posterior_76 rfl ?_
      refine X_iload C dX0_posterior_77 5 rfl ?_
      refine X_sh (LXf_sheet hX (i := x1.toNatClampNeg) (in_lt g54)).1 (by decide) (fun hs55 hb56 => ?_)
      refine X_callVX (ci := 3) (q := (RX3, TX3, 1)) (As := [_]) (rest := []) C rfl hs55 q546 q547 q548 q135 q549 ⟨rfl, nm_X3_get⟩ rfl dX0_posterior_79 (m_X3_get (Cx_l C) hX (d := d - 1) (by omega) st (170 + x1.toNatClampNeg) x8 hs55 hb56 h) (by omega) (by decide) (Nat.le_of_ble_eq_true rfl) (fun s58 w63 hE64 hP65 => ?_) (fun s68 E66 q67 hE64 hP65 => ?_)
      rotate_left
      · rcases hP65 with ⟨rfl, a_, rfl, hb_, hs_, h⟩
        refine XT_catch C [] ⟨0, 169, 170, 1⟩ [] rfl (fun _ h => absurd h List.not_mem_nil) (by decide) (by decide) q412 q425 ?_
        refine X_astore C dX0_posterior_170 (isRV_r _) (lo2 := [(4, _), (0, _), (1, _), (2, _), (3, _), (6, _), (8, _)]) (by decide) rfl ?_
        refine X_sub [1, 0] (lo2 := [(0, _), (4, _)]) rfl ?_
        exact hE172 s68 a_ hs_ hb_ h
      obtain ⟨r57, rfl, h⟩ := hP65
      refine X_tls ?_
      refine X_lstore C dX0_posterior_82 (lo2 := [(9, _), (0, _), (1, _), (2, _), (3, _), (6, _), (8, _)]) (by decide) rfl ?_
      refine X_lload C dX0_posterior_84 0 rfl ?_
      refine X_lconst (v := 0) C dX0_posterior_86 rfl ?_
      refine X_ldc2 C q924 dX0_posterior_87 ?_
      refine X_callS (As := [_, _, _]) (rest := []) C q415 q416 q132 q417 nm_X0_in rfl dX0_posterior_90 (m_X0_in (Cx_l C) (d := d - 1) (by omega) s58 r57 0 999 h) (by omega) (by decide) (Nat.le_of_ble_eq_true rfl) (fun s75 w70 hE71 hP72 => ?_) (fun s76 E73 q74 hE71 hP72 => ?_)
      rotate_left
      · exact False.elim hP72
      obtain ⟨r69, rfl, rfl, h⟩ := hP72
      refine X_tls ?_
      refine X_iconst (v := 5) C dX0_posterior_93 rfl ?_
      refine X_callS (As := [_, _]) (rest := []) C q421 q422 q132 q423 nm_X0_need rfl dX0_posterior_94 (m_X0_need (Cx_l C) hX (d := d - 1) (by omega) s58 r69 5 h) (by omega) (by decide) (Nat.le_of_ble_eq_true rfl) (fun s78 w83 hE84 hP85 => ?_) (fun s88 E86 q87 hE84 hP85 => ?_)
      rotate_left
      · rcases hP85 with ⟨rfl, a_, rfl, hb_, hs_, h⟩
        refine XT_catch C [] ⟨0, 169, 170, 1⟩ [] rfl (fun _ h => absurd h List.not_mem_nil) (by decide) (by decide) q412 q425 ?_
        refine X_astore C dX0_posterior_170 (isRV_r _) (lo2 := [(4, _), (9, _), (0, _), (1, _), (2, _), (3, _), (6, _), (8, _)]) (by decide) rfl ?_
        refine X_sub [2, 0] (lo2 := [(0, _), (4, _)]) rfl ?_
        exact hE172 s88 a_ hs_ hb_ h
      obtain ⟨rfl, h⟩ := hP85
      refine X_tln ?_
      refine X_lload C dX0_posterior_97 5 rfl ?_
      refine X_lload C dX0_posterior_99 0 rfl ?_
      refine X_aload_n C dX0_posterior_101 rfl 1 rfl (isRV_r _) ?_
      refine X_getF (ci := 0) (j := 1) (q := (RX0, TX0, 49)) C rfl (by decide) q261 rfl dX0_posterior_102 (b := 2) (LX_S hX (k := 0) rfl) (LX_F hX (k := 0) (j := 1) rfl) rfl ?_
      refine X_getNF (ci := 1) (j := 8) (q := (RX1, TX1, 10)) C rfl (by decide) q205 rfl dX0_posterior_105 (b := (2 + 15)) (LH_0 (LX_H2 hX)) (LH_F (LX_H2 hX) (k := 0) (j := 8) rfl) rfl ?_
      refine X_aload_n C dX0_posterior_108 rfl 1 rfl (isRV_r _) ?_
      refine X_getF (ci := 0) (j := 1) (q := (RX0, TX0, 49)) C rfl (by decide) q261 rfl dX0_posterior_109 (b := 2) (LX_S hX (k := 0) rfl) (LX_F hX (k := 0) (j := 1) rfl) rfl ?_
      refine X_getNS (ci := 1) (j := 4) (q := (RX1, TX1, 10)) C rfl (by decide) q197 rfl dX0_posterior_112 (LH_0 (LX_H2 hX)) (v := .int (sI s78 2 4)) rfl ?_
      have g89 := h.1
      have h := h.2
      refine X_aaldF C 6 rfl (LH_S (LX_H2 hX) (k := 15) rfl) (by decide) rfl (LH_L (LX_H2 hX) (k := 15) rfl) g89 rfl (b := (2 + (16 + (sI s78 2 4).toNatClampNeg))) (LHf_give (LX_H2 hX) (i := (sI s78 2 4).toNatClampNeg) (in_lt g89)).2.2 dX0_posterior_115 rfl ?_
      refine X_iload C dX0_posterior_116 6 rfl ?_
      have g90 := h.1
      have h := h.2
      refine X_ialdS C (LHf_give (LX_H2 hX) (i := (sI s78 2 4).toNatClampNeg) (in_lt g89)).1 (LHf_give (LX_H2 hX) (i := (sI s78 2 4).toNatClampNeg) (in_lt g89)).2.1 g90 rfl dX0_posterior_118 ?_
      refine X_i2l C dX0_posterior_119 ?_
      refine X_lmul C dX0_posterior_120 ?_
      refine X_ladd C dX0_posterior_121 ?_
      refine X_topl (fun v91 e92 => ?_)
      have h := h v91 e92
      refine X_lstore C dX0_posterior_122 (lo2 := [(6, _), (9, _), (0, _), (1, _), (2, _), (3, _), (8, _)]) (by decide) rfl ?_
      refine X_iinc (v := (x8 + 1)) C (j := 6) dX0_posterior_124 rfl rfl (lo2 := [(8, _), (6, _), (9, _), (0, _), (1, _), (2, _), (3, _)]) (by decide) rfl ?_
      refine X_goto (tgt := 59) C dX0_posterior_127 (by decide) ?_
      refine X_sub [3, 4, 5, 6, 1, 0] (lo2 := [(0, _), (1, _), (2, _), (3, _), (6, _), (8, _)]) rfl ?_
      exact hK59 s78 x1 x2 x3 v91 (x8 + 1) h
def w_X0_posterior_b130 (Φ : St → Int64 → Prop) (st : St) (x1 : Int32) (x2 : Int32) (x3 : Int32) (x6 : Int64) : Prop := vp_in x1 5 ∧ w_X3_get st (170 + x1.toNatClampNeg) x2 (fun (s98 : St) (r97 : Int64) => vp_in (sI s98 2 4) 15 ∧ vp_in x2 3 ∧ w_X0_shareOf s98 (r97 * (sI s98 (2 + (16 + (sI s98 2 4).toNatClampNeg)) x2.toNatClampNeg).toInt64) x6 (fun (s120 : St) (r119 : Nat) => w_X2_part s120 r119 x3 (fun (r141 : Int64) => Φ s120 r141)) (fun (s121 : St) (a122 : Nat) => w_X0_answersFar s121 a122 (fun (s126 : St) (r125 : Int64) => Φ s126 r125)) (fun _ => False)) (fun (s99 : St) (a100 : Nat) => w_X0_answersFar s99 a100 (fun (s104 : St) (r103 : Int64) => Φ s104 r103))
theorem t_X0_posterior_b130 {θ : Th} {κ : Kx} {Ph : Ph} (hX : LX θ) {d : Nat} (hd : 6 ≤ d) (C : Cx θ κ yX0_posterior cX0_posterior 11 (some Jvm.ClassFile.FieldType.long) [(0, 169, 170, 1)] d) {Φ : St → Int64 → Prop} (hn : ∀ st r, Φ st r → Ph.1 st (some (.long r))) (st : St) (x1 : Int32) (x2 : Int32) (x3 : Int32) (x6 : Int64) (h : w_X0_posterior_b130 Φ st x1 x2 x3 x6) : X θ κ Ph st 130 [(0, .ref (ad θ 0)), (1, .int x1), (2, .int x2), (3, .int x3), (6, .long x6)] [] := by
  unfold w_X0_posterior_b130 at h
  refine X_aload_n C dX0_posterior_130 rfl 0 rfl (isRV_r _) ?_
  refine X_aload_n C dX0_posterior_131 rfl 0 rfl (isRV_r _) ?_
  refine X_getF (ci := 0) (j := 48) (q := (RX0, TX0, 49)) C rfl (by decide) q308 rfl dX0_posterior_132 (b := 148) (LX_S hX (k := 0) rfl) (LX_F hX (k := 0) (j := 48) rfl) rfl ?_
  refine X_iload_n C dX0_posterior_135 rfl 1 rfl ?_
  have g94 := h.1
  have h := h.2
  refine X_aaldF C 10 rfl (LX_S hX (k := 148) rfl) (by decide) rfl (LX_L hX (k := 148) rfl) g94 rfl (b := (170 + x1.toNatClampNeg)) (LXf_sheet hX (i := x1.toNatClampNeg) (in_lt g94)).2 dX0_posterior_136 rfl ?_
  refine X_iload_n C dX0_posterior_137 rfl 2 rfl ?_
  refine X_sh (LXf_sheet hX (i := x1.toNatClampNeg) (in_lt g94)).1 (by decide) (fun hs95 hb96 => ?_)
  refine X_callVX (ci := 3) (q := (RX3, TX3, 1)) (As := [_]) (rest := [_]) C rfl hs95 q546 q547 q548 q135 q549 ⟨rfl, nm_X3_get⟩ rfl dX0_posterior_138 (m_X3_get (Cx_l C) hX (d := d - 1) (by omega) st (170 + x1.toNatClampNeg) x2 hs95 hb96 h) (by omega) (by decide) (Nat.le_of_ble_eq_true rfl) (fun s98 w111 hE112 hP113 => ?_) (fun s116 E114 q115 hE112 hP113 => ?_)
  rotate_left
  · rcases hP113 with ⟨rfl, a_, rfl, hb_, hs_, h⟩
    refine XT_catch C [] ⟨0, 169, 170, 1⟩ [] rfl (fun _ h => absurd h List.not_mem_nil) (by decide) (by decide) q412 q425 ?_
    refine X_astore C dX0_posterior_170 (isRV_r _) (lo2 := [(4, _), (0, _), (1, _), (2, _), (3, _), (6, _)]) (by decide) rfl ?_
    refine X_aload_n C dX0_posterior_172 rfl 1 rfl (isRV_r _) ?_
    refine X_aload C dX0_posterior_173 0 rfl (isRV_r _) ?_
    refine X_callVS (ci := 0) (q := (RX0, TX0, 49)) (As := [_]) (rest := []) C rfl (LX_S hX (k := 0) rfl) q745 q747 qs14 q132 q748 ⟨rfl, nm_X0_answersFar⟩ rfl dX0_posterior_175 (m_X0_answersFar (Cx_l C) hX (d := d - 1) (by omega) s116 a_ hs_ hb_ h) (by omega) (by decide) (Nat.le_of_ble_eq_true rfl) (fun s104 w105 hE106 hP107 => ?_) (fun s110 E108 q109 hE106 hP107 => ?_)
    rotate_left
    · exact False.elim hP107
    obtain ⟨r103, rfl, h⟩ := hP107
    refine X_tls ?_
    have hs_ := Ext_sh hE106 hs_ (by decide)
    exact X_lret C rfl dX0_posterior_178 (hn s104 _ h)
  obtain ⟨r97, rfl, h⟩ := hP113
  refine X_tls ?_
  refine X_aload_n C dX0_posterior_141 rfl 0 rfl (isRV_r _) ?_
  refine X_getF (ci := 0) (j := 1) (q := (RX0, TX0, 49)) C rfl (by decide) q261 rfl dX0_posterior_142 (b := 2) (LX_S hX (k := 0) rfl) (LX_F hX (k := 0) (j := 1) rfl) rfl ?_
  refine X_getNF (ci := 1) (j := 8) (q := (RX1, TX1, 10)) C rfl (by decide) q205 rfl dX0_posterior_145 (b := (2 + 15)) (LH_0 (LX_H2 hX)) (LH_F (LX_H2 hX) (k := 0) (j := 8) rfl) rfl ?_
  refine X_aload_n C dX0_posterior_148 rfl 0 rfl (isRV_r _) ?_
  refine X_getF (ci := 0) (j := 1) (q := (RX0, TX0, 49)) C rfl (by decide) q261 rfl dX0_posterior_149 (b := 2) (LX_S hX (k := 0) rfl) (LX_F hX (k := 0) (j := 1) rfl) rfl ?_
  refine X_getNS (ci := 1) (j := 4) (q := (RX1, TX1, 10)) C rfl (by decide) q197 rfl dX0_posterior_152 (LH_0 (LX_H2 hX)) (v := .int (sI s98 2 4)) rfl ?_
  have g117 := h.1
  have h := h.2
  refine X_aaldF C 6 rfl (LH_S (LX_H2 hX) (k := 15) rfl) (by decide) rfl (LH_L (LX_H2 hX) (k := 15) rfl) g117 rfl (b := (2 + (16 + (sI s98 2 4).toNatClampNeg))) (LHf_give (LX_H2 hX) (i := (sI s98 2 4).toNatClampNeg) (in_lt g117)).2.2 dX0_posterior_155 rfl ?_
  refine X_iload_n C dX0_posterior_156 rfl 2 rfl ?_
  have g118 := h.1
  have h := h.2
  refine X_ialdS C (LHf_give (LX_H2 hX) (i := (sI s98 2 4).toNatClampNeg) (in_lt g117)).1 (LHf_give (LX_H2 hX) (i := (sI s98 2 4).toNatClampNeg) (in_lt g117)).2.1 g118 rfl dX0_posterior_157 ?_
  refine X_i2l C dX0_posterior_158 ?_
  refine X_lmul C dX0_posterior_159 ?_
  refine X_lload C dX0_posterior_160 4 rfl ?_
  refine X_callVXS (ci := 0) (q := (RX0, TX0, 49)) (As := [_, _]) (rest := []) C rfl (LX_S hX (k := 0) rfl) q925 q927 qs37 q132 q928 ⟨rfl, nm_X0_shareOf⟩ rfl dX0_posterior_162 (m_X0_shareOf (Cx_l C) hX (d := d - 1) (by omega) s98 (r97 * (sI s98 (2 + (16 + (sI s98 2 4).toNatClampNeg)) x2.toNatClampNeg).toInt64) x6 h) (by omega) (by decide) (Nat.le_of_ble_eq_true rfl) (fun s120 w133 hE134 hP135 => ?_) (fun s138 E136 q137 hE134 hP135 => ?_)
  rotate_left
  · rcases hP135 with ⟨rfl, a_, rfl, hb_, hs_, h⟩ | ⟨rfl, h⟩
    · refine XT_catch C [] ⟨0, 169, 170, 1⟩ [] rfl (fun _ h => absurd h List.not_mem_nil) (by decide) (by decide) q412 q425 ?_
      refine X_astore C dX0_posterior_170 (isRV_r _) (lo2 := [(4, _), (0, _), (1, _), (2, _), (3, _), (6, _)]) (by decide) rfl ?_
      refine X_aload_n C dX0_posterior_172 rfl 1 rfl (isRV_r _) ?_
      refine X_aload C dX0_posterior_173 0 rfl (isRV_r _) ?_
      refine X_callVS (ci := 0) (q := (RX0, TX0, 49)) (As := [_]) (rest := []) C rfl (LX_S hX (k := 0) rfl) q745 q747 qs14 q132 q748 ⟨rfl, nm_X0_answersFar⟩ rfl dX0_posterior_175 (m_X0_answersFar (Cx_l C) hX (d := d - 1) (by omega) s138 a_ hs_ hb_ h) (by omega) (by decide) (Nat.le_of_ble_eq_true rfl) (fun s126 w127 hE128 hP129 => ?_) (fun s132 E130 q131 hE128 hP129 => ?_)
      rotate_left
      · exact False.elim hP129
      obtain ⟨r125, rfl, h⟩ := hP129
      refine X_tls ?_
      have hs_ := Ext_sh hE128 hs_ (by decide)
      exact X_lret C rfl dX0_posterior_178 (hn s126 _ h)
    · exact h.elim
  obtain ⟨r119, rfl, hb139, hs140, h⟩ := hP135
  refine X_tls ?_
  refine X_iload_n C dX0_posterior_165 rfl 3 rfl ?_
  refine X_callV (ci := 2) (q := (RX2, TX2, 2)) (As := [_]) (rest := []) C rfl hs140 q741 q742 q743 q134 q744 ⟨rfl, nm_X2_part⟩ rfl dX0_posterior_166 (m_X2_part (Cx_l C) (d := d - 1) (by omega) s120 r119 x3 hs140 hb139 h) (by omega) (by decide) (Nat.le_of_ble_eq_true rfl) (fun s147 w142 hE143 hP144 => ?_) (fun s148 E145 q146 hE143 hP144 => ?_)
  rotate_left
  · exact False.elim hP144
  obtain ⟨r141, rfl, rfl, h⟩ := hP144
  refine X_tls ?_
  exact X_lret C rfl dX0_posterior_169 (hn s120 _ h)
def w_X0_posterior_b30 (Φ : St → Int64 → Prop) (st : St) (x1 : Int32) (x2 : Int32) (x3 : Int32) (z0 : Int32) : Prop := w_X0_must st z0 (fun (s11 : St) => vp_in x1 5 ∧ w_X3_get s11 (170 + x1.toNatClampNeg) ((sI s11 2 0) - 1) (fun (s34 : St) (r33 : Int64) => w_X0_posterior_l59 Φ (fun (s93 : St) (x1 : Int32) (x2 : Int32) (x3 : Int32) (x6 : Int64) => w_X0_posterior_b130 Φ s93 x1 x2 x3 x6) (fun (s149 : St) (x4 : Nat) => w_X0_answersFar s149 x4 (fun (s151 : St) (r150 : Int64) => Φ s151 r150)) gFU s34 x1 x2 x3 0 0) (fun (s35 : St) (a36 : Nat) => w_X0_answersFar s35 a36 (fun (s40 : St) (r39 : Int64) => Φ s40 r39))) (fun (s12 : St) (a13 : Nat) => w_X0_answersFar s12 a13 (fun (s17 : St) (r16 : Int64) => Φ s17 r16))
theorem t_X0_posterior_b30 {θ : Th} {κ : Kx} {Ph : Ph} (hX : LX θ) {d : Nat} (hd : 6 ≤ d) (C : Cx θ κ yX0_posterior cX0_posterior 11 (some Jvm.ClassFile.FieldType.long) [(0, 169, 170, 1)] d) {Φ : St → Int64 → Prop} (hn : ∀ st r, Φ st r → Ph.1 st (some (.long r))) (st : St) (x1 : Int32) (x2 : Int32) (x3 : Int32) (z0 : Int32) (h : w_X0_posterior_b30 Φ st x1 x2 x3 z0) : X θ κ Ph st 30 [(0, .ref (ad θ 0)), (1, .int x1), (2, .int x2), (3, .int x3)] [.int z0] := by
  unfold w_X0_posterior_b30 at h
  refine X_callS (As := [_]) (rest := []) C q418 q419 q132 q420 nm_X0_must rfl dX0_posterior_30 (m_X0_must (Cx_l C) hX (d := d - 1) (by omega) st z0 h) (by omega) (by decide) (Nat.le_of_ble_eq_true rfl) (fun s11 w24 hE25 hP26 => ?_) (fun s29 E27 q28 hE25 hP26 => ?_)
  rotate_left
  · rcases hP26 with ⟨rfl, a_, rfl, hb_, hs_, h⟩
    refine XT_catch C [] ⟨0, 169, 170, 1⟩ [] rfl (fun _ h => absurd h List.not_mem_nil) (by decide) (by decide) q412 q425 ?_
    refine X_astore C dX0_posterior_170 (isRV_r _) (lo2 := [(4, _), (0, _), (1, _), (2, _), (3, _)]) (by decide) rfl ?_
    refine X_aload_n C dX0_posterior_172 rfl 1 rfl (isRV_r _) ?_
    refine X_aload C dX0_posterior_173 0 rfl (isRV_r _) ?_
    refine X_callVS (ci := 0) (q := (RX0, TX0, 49)) (As := [_]) (rest := []) C rfl (LX_S hX (k := 0) rfl) q745 q747 qs14 q132 q748 ⟨rfl, nm_X0_answersFar⟩ rfl dX0_posterior_175 (m_X0_answersFar (Cx_l C) hX (d := d - 1) (by omega) s29 a_ hs_ hb_ h) (by omega) (by decide) (Nat.le_of_ble_eq_true rfl) (fun s17 w18 hE19 hP20 => ?_) (fun s23 E21 q22 hE19 hP20 => ?_)
    rotate_left
    · exact False.elim hP20
    obtain ⟨r16, rfl, h⟩ := hP20
    refine X_tls ?_
    have hs_ := Ext_sh hE19 hs_ (by decide)
    exact X_lret C rfl dX0_posterior_178 (hn s17 _ h)
  obtain ⟨rfl, h⟩ := hP26
  refine X_tln ?_
  refine X_aload_n C dX0_posterior_33 rfl 0 rfl (isRV_r _) ?_
  refine X_getF (ci := 0) (j := 48) (q := (RX0, TX0, 49)) C rfl (by decide) q308 rfl dX0_posterior_34 (b := 148) (LX_S hX (k := 0) rfl) (LX_F hX (k := 0) (j := 48) rfl) rfl ?_
  refine X_iload_n C dX0_posterior_37 rfl 1 rfl ?_
  have g30 := h.1
  have h := h.2
  refine X_aaldF C 10 rfl (LX_S hX (k := 148) rfl) (by decide) rfl (LX_L hX (k := 148) rfl) g30 rfl (b := (170 + x1.toNatClampNeg)) (LXf_sheet hX (i := x1.toNatClampNeg) (in_lt g30)).2 dX0_posterior_38 rfl ?_
  refine X_aload_n C dX0_posterior_39 rfl 0 rfl (isRV_r _) ?_
  refine X_getF (ci := 0) (j := 1) (q := (RX0, TX0, 49)) C rfl (by decide) q261 rfl dX0_posterior_40 (b := 2) (LX_S hX (k := 0) rfl) (LX_F hX (k := 0) (j := 1) rfl) rfl ?_
  refine X_getNS (ci := 1) (j := 0) (q := (RX1, TX1, 10)) C rfl (by decide) q189 rfl dX0_posterior_43 (LH_0 (LX_H2 hX)) (v := .int (sI s11 2 0)) rfl ?_
  refine X_iconst (v := 1) C dX0_posterior_46 rfl ?_
  refine X_isub C dX0_posterior_47 ?_
  refine X_sh (LXf_sheet hX (i := x1.toNatClampNeg) (in_lt g30)).1 (by decide) (fun hs31 hb32 => ?_)
  refine X_callVX (ci := 3) (q := (RX3, TX3, 1)) (As := [_]) (rest := []) C rfl hs31 q546 q547 q548 q135 q549 ⟨rfl, nm_X3_get⟩ rfl dX0_posterior_48 (m_X3_get (Cx_l C) hX (d := d - 1) (by omega) s11 (170 + x1.toNatClampNeg) ((sI s11 2 0) - 1) hs31 hb32 h) (by omega) (by decide) (Nat.le_of_ble_eq_true rfl) (fun s34 w47 hE48 hP49 => ?_) (fun s52 E50 q51 hE48 hP49 => ?_)
  rotate_left
  · rcases hP49 with ⟨rfl, a_, rfl, hb_, hs_, h⟩
    refine XT_catch C [] ⟨0, 169, 170, 1⟩ [] rfl (fun _ h => absurd h List.not_mem_nil) (by decide) (by decide) q412 q425 ?_
    refine X_astore C dX0_posterior_170 (isRV_r _) (lo2 := [(4, _), (0, _), (1, _), (2, _), (3, _)]) (by decide) rfl ?_
    refine X_aload_n C dX0_posterior_172 rfl 1 rfl (isRV_r _) ?_
    refine X_aload C dX0_posterior_173 0 rfl (isRV_r _) ?_
    refine X_callVS (ci := 0) (q := (RX0, TX0, 49)) (As := [_]) (rest := []) C rfl (LX_S hX (k := 0) rfl) q745 q747 qs14 q132 q748 ⟨rfl, nm_X0_answersFar⟩ rfl dX0_posterior_175 (m_X0_answersFar (Cx_l C) hX (d := d - 1) (by omega) s52 a_ hs_ hb_ h) (by omega) (by decide) (Nat.le_of_ble_eq_true rfl) (fun s40 w41 hE42 hP43 => ?_) (fun s46 E44 q45 hE42 hP43 => ?_)
    rotate_left
    · exact False.elim hP43
    obtain ⟨r39, rfl, h⟩ := hP43
    refine X_tls ?_
    have hs_ := Ext_sh hE42 hs_ (by decide)
    exact X_lret C rfl dX0_posterior_178 (hn s40 _ h)
  obtain ⟨r33, rfl, h⟩ := hP49
  refine X_tls ?_
  refine X_lstore C dX0_posterior_51 (lo2 := [(4, _), (0, _), (1, _), (2, _), (3, _)]) (by decide) rfl ?_
  refine X_lconst (v := 0) C dX0_posterior_53 rfl ?_
  refine X_lstore C dX0_posterior_54 (lo2 := [(6, _), (4, _), (0, _), (1, _), (2, _), (3, _)]) (by decide) rfl ?_
  refine X_iconst (v := 0) C dX0_posterior_56 rfl ?_
  refine X_istore C dX0_posterior_57 (lo2 := [(8, _), (6, _), (4, _), (0, _), (1, _), (2, _), (3, _)]) (by decide) rfl ?_
  refine X_sub [3, 4, 5, 6, 1, 0] (lo2 := [(0, _), (1, _), (2, _), (3, _), (6, _), (8, _)]) rfl ?_
  refine t_X0_posterior_l59 hX hd C hn ?_ ?_ gFU s34 x1 x2 x3 0 0 h
  · intro s93 x1 x2 x3 x6 h
    exact t_X0_posterior_b130 hX hd C hn s93 x1 x2 x3 x6 h
  · intro s149 x4 hs_x4 hb_x4 h
    refine X_aload_n C dX0_posterior_172 rfl 0 rfl (isRV_r _) ?_
    refine X_aload C dX0_posterior_173 1 rfl (isRV_r _) ?_
    refine X_callVS (ci := 0) (q := (RX0, TX0, 49)) (As := [_]) (rest := []) C rfl (LX_S hX (k := 0) rfl) q745 q747 qs14 q132 q748 ⟨rfl, nm_X0_answersFar⟩ rfl dX0_posterior_175 (m_X0_answersFar (Cx_l C) hX (d := d - 1) (by omega) s149 x4 hs_x4 hb_x4 h) (by omega) (by decide) (Nat.le_of_ble_eq_true rfl) (fun s151 w152 hE153 hP154 => ?_) (fun s157 E155 q156 hE153 hP154 => ?_)
    rotate_left
    · exact False.elim hP154
    obtain ⟨r150, rfl, h⟩ := hP154
    refine X_tls ?_
    have hs_x4 := Ext_sh hE153 hs_x4 (by decide)
    exact X_lret C rfl dX0_posterior_178 (hn s151 _ h)
def w_X0_posterior_b29 (Φ : St → Int64 → Prop) (st : St) (x1 : Int32) (x2 : Int32) (x3 : Int32) : Prop := w_X0_posterior_b30 Φ st x1 x2 x3 0
theorem t_X0_posterior_b29 {θ : Th} {κ : Kx} {Ph : Ph} (hX : LX θ) {d : Nat} (hd : 6 ≤ d) (C : Cx θ κ yX0_posterior cX0_posterior 11 (some Jvm.ClassFile.FieldType.long) [(0, 169, 170, 1)] d) {Φ : St → Int64 → Prop} (hn : ∀ st r, Φ st r → Ph.1 st (some (.long r))) (st : St) (x1 : Int32) (x2 : Int32) (x3 : Int32) (h : w_X0_posterior_b29 Φ st x1 x2 x3) : X θ κ Ph st 29 [(0, .ref (ad θ 0)), (1, .int x1), (2, .int x2), (3, .int x3)] [] := by
  unfold w_X0_posterior_b29 at h
  refine X_iconst (v := 0) C dX0_posterior_29 rfl ?_
  exact t_X0_posterior_b30 hX hd C hn st x1 x2 x3 0 h
def w_X0_posterior (st : St) (p1 : Int32) (p2 : Int32) (p3 : Int32) (Φ : St → Int64 → Prop) : Prop := w_X0_isSheet p1 (fun (r1 : Int32) => ((r1 = 0) → w_X0_posterior_b29 Φ st p1 p2 p3) ∧ ((¬ r1 = 0) → w_X1_isState 2 st p2 (fun (r158 : Int32) => ((r158 = 0) → w_X0_posterior_b29 Φ st p1 p2 p3) ∧ ((¬ r158 = 0) → w_X0_isPart p3 (fun (r167 : Int32) => ((r167 = 0) → w_X0_posterior_b29 Φ st p1 p2 p3) ∧ ((¬ r167 = 0) → w_X0_posterior_b30 Φ st p1 p2 p3 1))))))
theorem e_X0_posterior : plainFor yX0_posterior = true := plainFor_of_name (by decide +kernel)
theorem m_X0_posterior {θ : Th} {l : Launch} (hl0 : l.stackTraces = false) (hX : LX θ) {d : Nat} (hd : 6 ≤ d) (st : St) (p1 : Int32) (p2 : Int32) (p3 : Int32) {Φ : St → Int64 → Prop} (h : w_X0_posterior st p1 p2 p3 Φ) : Ct θ l yX0_posterior (wsW_ yX0_posterior cX0_posterior 11 (some Jvm.ClassFile.FieldType.long) [(0, 169, 170, 1)]) d [.ref (ad θ 0), .int p1, .int p2, .int p3] st (pL Φ, noX) := by
  refine Ct_entryW hl0 e_X0_posterior (Nat.le_of_ble_eq_true rfl) (fun κ hκ _ C => ?_)
  have hn : ∀ st r, Φ st r → ((pL Φ, noX) : Ph).1 st (some (.long r)) := fun st r q => ⟨r, rfl, q⟩
  change X _ _ _ _ _ [(0, .ref (ad θ 0)), (1, .int p1), (2, .int p2), (3, .int p3)] _
  unfold w_X0_posterior at h
  refine X_iload_n C dX0_posterior_0 rfl 1 rfl ?_
  refine X_callS (As := [_]) (rest := []) C q543 q544 q132 q545 nm_X0_isSheet rfl dX0_posterior_1 (m_X0_isSheet (Cx_l C) (d := d - 1) (by omega) st p1 h) (by omega) (by decide) (Nat.le_of_ble_eq_true rfl) (fun s7 w2 hE3 hP4 => ?_) (fun s8 E5 q6 hE3 hP4 => ?_)
  rotate_left
  · exact False.elim hP4
  obtain ⟨r1, rfl, rfl, h⟩ := hP4
  refine X_tls ?_
  refine X_if_eq (tgt := 29) C dX0_posterior_4 (by decide) (fun c9 => ?_) (fun c9 => ?_)
  · have h := h.1 c9
    exact t_X0_posterior_b29 hX hd C hn st p1 p2 p3 h
  · have h := h.2 c9
    refine X_aload_n C dX0_posterior_7 rfl 0 rfl (isRV_r _) ?_
    refine X_getF (ci := 0) (j := 1) (q := (RX0, TX0, 49)) C rfl (by decide) q261 rfl dX0_posterior_8 (b := 2) (LX_S hX (k := 0) rfl) (LX_F hX (k := 0) (j := 1) rfl) rfl ?_
    refine X_iload_n C dX0_posterior_11 rfl 2 rfl ?_
    refine X_callVS (ci := 1) (q := (RX1, TX1, 10)) (As := [_]) (rest := []) C rfl (LH_0 (LX_H2 hX)) q628 q629 q630 q133 q631 ⟨rfl, nm_X1_isState⟩ rfl dX0_posterior_12 (m_X1_isState (Cx_l C) (LX_H2 hX) (d := d - 1) (by omega) st p2 h) (by omega) (by decide) (Nat.le_of_ble_eq_true rfl) (fun s164 w159 hE160 hP161 => ?_) (fun s165 E162 q163 hE160 hP161 => ?_)
    rotate_left
    · exact False.elim hP161
    obtain ⟨r158, rfl, rfl, h⟩ := hP161
    refine X_tls ?_
    refine X_if_eq (tgt := 29) C dX0_posterior_15 (by decide) (fun c166 => ?_) (fun c166 => ?_)
    · have h := h.1 c166
      exact t_X0_posterior_b29 hX hd C hn st p1 p2 p3 h
    · have h := h.2 c166
      refine X_iload_n C dX0_posterior_18 rfl 3 rfl ?_
      refine X_callS (As := [_]) (rest := []) C q658 q659 q132 q660 nm_X0_isPart rfl dX0_posterior_19 (m_X0_isPart (Cx_l C) (d := d - 1) (by omega) st p3 h) (by omega) (by decide) (Nat.le_of_ble_eq_true rfl) (fun s173 w168 hE169 hP170 => ?_) (fun s174 E171 q172 hE169 hP170 => ?_)
      rotate_left
      · exact False.elim hP170
      obtain ⟨r167, rfl, rfl, h⟩ := hP170
      refine X_tls ?_
      refine X_if_eq (tgt := 29) C dX0_posterior_22 (by decide) (fun c175 => ?_) (fun c175 => ?_)
      · have h := h.1 c175
        exact t_X0_posterior_b29 hX hd C hn st p1 p2 p3 h
      · have h := h.2 c175
        refine X_iconst (v := 1) C dX0_posterior_25 rfl ?_
        refine X_goto (tgt := 30) C dX0_posterior_26 (by decide) ?_
        exact t_X0_posterior_b30 hX hd C hn st p1 p2 p3 1 h

theorem nm_X0_next : yX0_next.cls ≠ "java/lang/invoke/MethodHandle" ∧ yX0_next.cls ≠ "java/lang/invoke/VarHandle" ∧ (parseMethodDescriptor yX0_next.desc).map (fun d => d.parameters.length) = some 0 := by decide +kernel
def w_X0_next_b18 (Φ : St → Prop) (Φf : St → Nat → Prop) (K0 : St → Prop) (st : St) : Prop := ∀ s10, s10 = putI st 0 34 ((sI st 0 34) + 1) → K0 s10
theorem t_X0_next_b18 {θ : Th} {κ : Kx} {Ph : Ph} (hX : LX θ) {d : Nat} (hd : 6 ≤ d) (C : Cx θ κ yX0_next cX0_next 2 (none : Option Jvm.ClassFile.FieldType) [] d) {Φ : St → Prop} {Φf : St → Nat → Prop} (hn : ∀ st, Φ st → Ph.1 st none) (hf : ∀ st a, a < gBIG → sh st a = 7 → Φf st a → Ph.2 st "SecretsWorth$Fault" (ad θ a)) {K0 : St → Prop} (hK0 : ∀ (st : St), K0 st → X θ κ Ph st 0 [(0, .ref (ad θ 0))] []) (st : St) (h : w_X0_next_b18 Φ Φf K0 st) : X θ κ Ph st 18 [(0, .ref (ad θ 0))] [] := by
  unfold w_X0_next_b18 at h
  refine X_aload_n C dX0_next_18 rfl 0 rfl (isRV_r _) ?_
  refine X_dup C dX0_next_19 rfl ?_
  refine X_getS (ci := 0) (j := 34) (q := (RX0, TX0, 49)) C rfl (by decide) q294 rfl dX0_next_20 (LX_S hX (k := 0) rfl) (v := .int (sI st 0 34)) rfl ?_
  refine X_iconst (v := 1) C dX0_next_23 rfl ?_
  refine X_iadd C dX0_next_24 ?_
  refine X_putSI (ci := 0) (j := 34) (q := (RX0, TX0, 49)) C rfl (by decide) q294 rfl rfl dX0_next_25 (LX_S hX (k := 0) rfl) rfl rfl rfl ?_
  refine X_nm (fun s10 e11 => ?_)
  have h := h s10 e11
  refine X_goto (tgt := 0) C dX0_next_28 (by decide) ?_
  exact hK0 s10 h
def w_X0_next_l0 (Φ : St → Prop) (Φf : St → Nat → Prop) (E31 : St → Prop) : Nat → St → Prop
  | 0, _ => False
  | n + 1, st => w_X0_here st (fun (r1 : Int32) => ((r1 = 32) → w_X0_next_b18 Φ Φf (w_X0_next_l0 Φ Φf E31 n) st) ∧ ((¬ r1 = 32) → w_X0_here st (fun (r12 : Int32) => ((r12 ≠ 10) → E31 st) ∧ ((r12 = 10) → w_X0_next_b18 Φ Φf (w_X0_next_l0 Φ Φf E31 n) st))))
theorem t_X0_next_l0 {θ : Th} {κ : Kx} {Ph : Ph} (hX : LX θ) {d : Nat} (hd : 6 ≤ d) (C : Cx θ κ yX0_next cX0_next 2 (none : Option Jvm.ClassFile.FieldType) [] d) {Φ : St → Prop} {Φf : St → Nat → Prop} (hn : ∀ st, Φ st → Ph.1 st none) (hf : ∀ st a, a < gBIG → sh st a = 7 → Φf st a → Ph.2 st "SecretsWorth$Fault" (ad θ a)) {E31 : St → Prop} (hE31 : ∀ (st : St), E31 st → X θ κ Ph st 31 [(0, .ref (ad θ 0))] []) : ∀ (n : Nat) (st : St), w_X0_next_l0 Φ Φf E31 n st → X θ κ Ph st 0 [(0, .ref (ad θ 0))] [] := by
  intro n
  induction n with
  | zero => intro st h; exact h.elim
  | succ n hK0 =>
    intro st h
    rw [w_X0_next_l0] at h
    refine X_aload_n C dX0_next_0 rfl 0 rfl (isRV_r _) ?_
    refine X_callVS (ci := 0) (q := (RX0, TX0, 49)) (As := []) (rest := []) C rfl (LX_S hX (k := 0) rfl) q954 q956 qs40 q132 q957 ⟨rfl, nm_X0_here⟩ rfl dX0_next_1 (m_X0_here (Cx_l C) hX (d := d - 1) (by omega) st h) (by omega) (by decide) (Nat.le_of_ble_eq_true rfl) (fun s7 w2 hE3 hP4 => ?_) (fun s8 E5 q6 hE3 hP4 => ?_)
    rotate_left
    · exact False.elim hP4
    obtain ⟨r1, rfl, rfl, h⟩ := hP4
    refine X_tls ?_
    refine X_bipush (v := 32) C dX0_next_4 rfl ?_
    refine X_icmp_eq (tgt := 18) C dX0_next_6 (by decide) (fun c9 => ?_) (fun c9 => ?_)
    · have h := h.1 c9
      exact t_X0_next_b18 hX hd C hn hf hK0 st h
    · have h := h.2 c9
      refine X_aload_n C dX0_next_9 rfl 0 rfl (isRV_r _) ?_
      refine X_callVS (ci := 0) (q := (RX0, TX0, 49)) (As := []) (rest := []) C rfl (LX_S hX (k := 0) rfl) q954 q956 qs40 q132 q957 ⟨rfl, nm_X0_here⟩ rfl dX0_next_10 (m_X0_here (Cx_l C) hX (d := d - 1) (by omega) st h) (by omega) (by decide) (Nat.le_of_ble_eq_true rfl) (fun s18 w13 hE14 hP15 => ?_) (fun s19 E16 q17 hE14 hP15 => ?_)
      rotate_left
      · exact False.elim hP15
      obtain ⟨r12, rfl, rfl, h⟩ := hP15
      refine X_tls ?_
      refine X_bipush (v := 10) C dX0_next_13 rfl ?_
      refine X_icmp_ne (tgt := 31) C dX0_next_15 (by decide) (fun c20 => ?_) (fun c20 => ?_)
      · have h := h.1 c20
        exact hE31 st h
      · have h := h.2 c20
        exact t_X0_next_b18 hX hd C hn hf hK0 st h
def w_X0_next_b293 (Φ : St → Prop) (Φf : St → Nat → Prop) (st : St) (z0 : Int32) : Prop := w_X0_wants st z0 (fun (s63 : St) => ∀ s70, s70 = putI s63 0 34 ((sI s63 0 34) + 1) → Φ s70) Φf
theorem t_X0_next_b293 {θ : Th} {κ : Kx} {Ph : Ph} (hX : LX θ) {d : Nat} (hd : 6 ≤ d) (C : Cx θ κ yX0_next cX0_next 2 (none : Option Jvm.ClassFile.FieldType) [] d) {Φ : St → Prop} {Φf : St → Nat → Prop} (hn : ∀ st, Φ st → Ph.1 st none) (hf : ∀ st a, a < gBIG → sh st a = 7 → Φf st a → Ph.2 st "SecretsWorth$Fault" (ad θ a)) (st : St) (z0 : Int32) (h : w_X0_next_b293 Φ Φf st z0) : X θ κ Ph st 293 [(0, .ref (ad θ 0))] [.int z0, .ref (ad θ 0)] := by
  unfold w_X0_next_b293 at h
  refine X_callVS (ci := 0) (q := (RX0, TX0, 49)) (As := [_]) (rest := []) C rfl (LX_S hX (k := 0) rfl) q1144 q1146 qs42 q132 q1147 ⟨rfl, nm_X0_wants⟩ rfl dX0_next_293 (m_X0_wants (Cx_l C) hX (d := d - 1) (by omega) st z0 h) (by omega) (by decide) (Nat.le_of_ble_eq_true rfl) (fun s63 w64 hE65 hP66 => ?_) (fun s69 E67 q68 hE65 hP66 => ?_)
  rotate_left
  · rcases hP66 with ⟨rfl, a_, rfl, hb_, hs_, h⟩
    exact XT_out C rfl (hf s69 a_ hb_ hs_ h)
  obtain ⟨rfl, h⟩ := hP66
  refine X_tln ?_
  refine X_aload_n C dX0_next_296 rfl 0 rfl (isRV_r _) ?_
  refine X_dup C dX0_next_297 rfl ?_
  refine X_getS (ci := 0) (j := 34) (q := (RX0, TX0, 49)) C rfl (by decide) q294 rfl dX0_next_298 (LX_S hX (k := 0) rfl) (v := .int (sI s63 0 34)) rfl ?_
  refine X_iconst (v := 1) C dX0_next_301 rfl ?_
  refine X_iadd C dX0_next_302 ?_
  refine X_putSI (ci := 0) (j := 34) (q := (RX0, TX0, 49)) C rfl (by decide) q294 rfl rfl dX0_next_303 (LX_S hX (k := 0) rfl) rfl rfl rfl ?_
  refine X_nm (fun s70 e71 => ?_)
  have h := h s70 e71
  exact X_vret C rfl dX0_next_306 (hn s70 h)
def w_X0_next_b288 (Φ : St → Prop) (Φf : St → Nat → Prop) (st : St) : Prop := w_X0_next_b293 Φ Φf st 1
theorem t_X0_next_b288 {θ : Th} {κ : Kx} {Ph : Ph} (hX : LX θ) {d : Nat} (hd : 6 ≤ d) (C : Cx θ κ yX0_next cX0_next 2 (none : Option Jvm.ClassFile.FieldType) [] d) {Φ : St → Prop} {Φf : St → Nat → Prop} (hn : ∀ st, Φ st → Ph.1 st none) (hf : ∀ st a, a < gBIG → sh st a = 7 → Φf st a → Ph.2 st "SecretsWorth$Fault" (ad θ a)) (st : St) (h : w_X0_next_b288 Φ Φf st) : X θ κ Ph st 288 [(0, .ref (ad θ 0))] [.ref (ad θ 0)] := by
  unfold w_X0_next_b288 at h
  refine X_iconst (v := 1) C dX0_next_288 rfl ?_
  refine X_goto (tgt := 293) C dX0_next_289 (by decide) ?_
  exact t_X0_next_b293 hX hd C hn hf st 1 h
def w_X0_next_b182 (Φ : St → Prop) (Φf : St → Nat → Prop) (K135 : St → Prop) (st : St) (z0 : Int32) : Prop := ∀ s88, s88 = putI st 0 37 z0 → ∀ s90, s90 = putI s88 0 34 ((sI s88 0 34) + 1) → K135 s90
theorem t_X0_next_b182 {θ : Th} {κ : Kx} {Ph : Ph} (hX : LX θ) {d : Nat} (hd : 6 ≤ d) (C : Cx θ κ yX0_next cX0_next 2 (none : Option Jvm.ClassFile.FieldType) [] d) {Φ : St → Prop} {Φf : St → Nat → Prop} (hn : ∀ st, Φ st → Ph.1 st none) (hf : ∀ st a, a < gBIG → sh st a = 7 → Φf st a → Ph.2 st "SecretsWorth$Fault" (ad θ a)) {K135 : St → Prop} (hK135 : ∀ (st : St), K135 st → X θ κ Ph st 135 [(0, .ref (ad θ 0))] []) (st : St) (z0 : Int32) (h : w_X0_next_b182 Φ Φf K135 st z0) : X θ κ Ph st 182 [(0, .ref (ad θ 0))] [.int z0, .ref (ad θ 0)] := by
  unfold w_X0_next_b182 at h
  refine X_putSI (ci := 0) (j := 37) (q := (RX0, TX0, 49)) C rfl (by decide) q297 rfl rfl dX0_next_182 (LX_S hX (k := 0) rfl) rfl rfl rfl ?_
  refine X_nm (fun s88 e89 => ?_)
  have h := h s88 e89
  refine X_aload_n C dX0_next_185 rfl 0 rfl (isRV_r _) ?_
  refine X_dup C dX0_next_186 rfl ?_
  refine X_getS (ci := 0) (j := 34) (q := (RX0, TX0, 49)) C rfl (by decide) q294 rfl dX0_next_187 (LX_S hX (k := 0) rfl) (v := .int (sI s88 0 34)) rfl ?_
  refine X_iconst (v := 1) C dX0_next_190 rfl ?_
  refine X_iadd C dX0_next_191 ?_
  refine X_putSI (ci := 0) (j := 34) (q := (RX0, TX0, 49)) C rfl (by decide) q294 rfl rfl dX0_next_192 (LX_S hX (k := 0) rfl) rfl rfl rfl ?_
  refine X_nm (fun s90 e91 => ?_)
  have h := h s90 e91
  refine X_goto (tgt := 135) C dX0_next_195 (by decide) ?_
  exact hK135 s90 h
def w_X0_next_l135 (Φ : St → Prop) (Φf : St → Nat → Prop) (E198 : St → Prop) : Nat → St → Prop
  | 0, _ => False
  | n + 1, st => w_X0_isIn st 48 57 (fun (r78 : Int32) => ((r78 = 0) → E198 st) ∧ ((¬ r78 = 0) → ((4 ≤ ((sI st 0 34) - (sI st 0 35))) → w_X0_next_b182 Φ Φf (w_X0_next_l135 Φ Φf E198 n) st (sI st 0 37)) ∧ ((¬ 4 ≤ ((sI st 0 34) - (sI st 0 35))) → w_X0_here st (fun (r92 : Int32) => w_X0_next_b182 Φ Φf (w_X0_next_l135 Φ Φf E198 n) st (((10 * (sI st 0 37)) + r92) - 48)))))
theorem t_X0_next_l135 {θ : Th} {κ : Kx} {Ph : Ph} (hX : LX θ) {d : Nat} (hd : 6 ≤ d) (C : Cx θ κ yX0_next cX0_next 2 (none : Option Jvm.ClassFile.FieldType) [] d) {Φ : St → Prop} {Φf : St → Nat → Prop} (hn : ∀ st, Φ st → Ph.1 st none) (hf : ∀ st a, a < gBIG → sh st a = 7 → Φf st a → Ph.2 st "SecretsWorth$Fault" (ad θ a)) {E198 : St → Prop} (hE198 : ∀ (st : St), E198 st → X θ κ Ph st 198 [(0, .ref (ad θ 0))] []) : ∀ (n : Nat) (st : St), w_X0_next_l135 Φ Φf E198 n st → X θ κ Ph st 135 [(0, .ref (ad θ 0))] [] := by
  intro n
  induction n with
  | zero => intro st h; exact h.elim
  | succ n hK135 =>
    intro st h
    rw [w_X0_next_l135] at h
    refine X_aload_n C dX0_next_135 rfl 0 rfl (isRV_r _) ?_
    refine X_bipush (v := 48) C dX0_next_136 rfl ?_
    refine X_bipush (v := 57) C dX0_next_138 rfl ?_
    refine X_callVS (ci := 0) (q := (RX0, TX0, 49)) (As := [_, _]) (rest := []) C rfl (LX_S hX (k := 0) rfl) q958 q960 qs41 q132 q961 ⟨rfl, nm_X0_isIn⟩ rfl dX0_next_140 (m_X0_isIn (Cx_l C) hX (d := d - 1) (by omega) st 48 57 h) (by omega) (by decide) (Nat.le_of_ble_eq_true rfl) (fun s84 w79 hE80 hP81 => ?_) (fun s85 E82 q83 hE80 hP81 => ?_)
    rotate_left
    · exact False.elim hP81
    obtain ⟨r78, rfl, rfl, h⟩ := hP81
    refine X_tls ?_
    refine X_if_eq (tgt := 198) C dX0_next_143 (by decide) (fun c86 => ?_) (fun c86 => ?_)
    · have h := h.1 c86
      exact hE198 st h
    · have h := h.2 c86
      refine X_aload_n C dX0_next_146 rfl 0 rfl (isRV_r _) ?_
      refine X_aload_n C dX0_next_147 rfl 0 rfl (isRV_r _) ?_
      refine X_getS (ci := 0) (j := 34) (q := (RX0, TX0, 49)) C rfl (by decide) q294 rfl dX0_next_148 (LX_S hX (k := 0) rfl) (v := .int (sI st 0 34)) rfl ?_
      refine X_aload_n C dX0_next_151 rfl 0 rfl (isRV_r _) ?_
      refine X_getS (ci := 0) (j := 35) (q := (RX0, TX0, 49)) C rfl (by decide) q295 rfl dX0_next_152 (LX_S hX (k := 0) rfl) (v := .int (sI st 0 35)) rfl ?_
      refine X_isub C dX0_next_155 ?_
      refine X_iconst (v := 4) C dX0_next_156 rfl ?_
      refine X_icmp_ge (tgt := 178) C dX0_next_157 (by decide) (fun c87 => ?_) (fun c87 => ?_)
      · have h := h.1 c87
        refine X_aload_n C dX0_next_178 rfl 0 rfl (isRV_r _) ?_
        refine X_getS (ci := 0) (j := 37) (q := (RX0, TX0, 49)) C rfl (by decide) q297 rfl dX0_next_179 (LX_S hX (k := 0) rfl) (v := .int (sI st 0 37)) rfl ?_
        exact t_X0_next_b182 hX hd C hn hf hK135 st (sI st 0 37) h
      · have h := h.2 c87
        refine X_bipush (v := 10) C dX0_next_160 rfl ?_
        refine X_aload_n C dX0_next_162 rfl 0 rfl (isRV_r _) ?_
        refine X_getS (ci := 0) (j := 37) (q := (RX0, TX0, 49)) C rfl (by decide) q297 rfl dX0_next_163 (LX_S hX (k := 0) rfl) (v := .int (sI st 0 37)) rfl ?_
        refine X_imul C dX0_next_166 ?_
        refine X_aload_n C dX0_next_167 rfl 0 rfl (isRV_r _) ?_
        refine X_callVS (ci := 0) (q := (RX0, TX0, 49)) (As := []) (rest := [_, _]) C rfl (LX_S hX (k := 0) rfl) q954 q956 qs40 q132 q957 ⟨rfl, nm_X0_here⟩ rfl dX0_next_168 (m_X0_here (Cx_l C) hX (d := d - 1) (by omega) st h) (by omega) (by decide) (Nat.le_of_ble_eq_true rfl) (fun s98 w93 hE94 hP95 => ?_) (fun s99 E96 q97 hE94 hP95 => ?_)
        rotate_left
        · exact False.elim hP95
        obtain ⟨r92, rfl, rfl, h⟩ := hP95
        refine X_tls ?_
        refine X_iadd C dX0_next_171 ?_
        refine X_bipush (v := 48) C dX0_next_172 rfl ?_
        refine X_isub C dX0_next_174 ?_
        refine X_goto (tgt := 182) C dX0_next_175 (by decide) ?_
        exact t_X0_next_b182 hX hd C hn hf hK135 st (((10 * (sI st 0 37)) + r92) - 48) h
def w_X0_next_b217 (Φ : St → Prop) (Φf : St → Nat → Prop) (st : St) (z0 : Int32) : Prop := w_X0_wants st z0 (fun (s103 : St) => Φ s103) Φf
theorem t_X0_next_b217 {θ : Th} {κ : Kx} {Ph : Ph} (hX : LX θ) {d : Nat} (hd : 6 ≤ d) (C : Cx θ κ yX0_next cX0_next 2 (none : Option Jvm.ClassFile.FieldType) [] d) {Φ : St → Prop} {Φf : St → Nat → Prop} (hn : ∀ st, Φ st → Ph.1 st none) (hf : ∀ st a, a < gBIG → sh st a = 7 → Φf st a → Ph.2 st "SecretsWorth$Fault" (ad θ a)) (st : St) (z0 : Int32) (h : w_X0_next_b217 Φ Φf st z0) : X θ κ Ph st 217 [] [.int z0, .ref (ad θ 0)] := by
  unfold w_X0_next_b217 at h
  refine X_callVS (ci := 0) (q := (RX0, TX0, 49)) (As := [_]) (rest := []) C rfl (LX_S hX (k := 0) rfl) q1144 q1146 qs42 q132 q1147 ⟨rfl, nm_X0_wants⟩ rfl dX0_next_217 (m_X0_wants (Cx_l C) hX (d := d - 1) (by omega) st z0 h) (by omega) (by decide) (Nat.le_of_ble_eq_true rfl) (fun s103 w104 hE105 hP106 => ?_) (fun s109 E107 q108 hE105 hP106 => ?_)
  rotate_left
  · rcases hP106 with ⟨rfl, a_, rfl, hb_, hs_, h⟩
    exact XT_out C rfl (hf s109 a_ hb_ hs_ h)
  obtain ⟨rfl, h⟩ := hP106
  refine X_tln ?_
  refine X_goto (tgt := 306) C dX0_next_220 (by decide) ?_
  exact X_vret C rfl dX0_next_306 (hn s103 h)
def w_X0_next_b198 (Φ : St → Prop) (Φf : St → Nat → Prop) (st : St) : Prop := ((4 < ((sI st 0 34) - (sI st 0 35))) → w_X0_next_b217 Φ Φf st 0) ∧ ((¬ 4 < ((sI st 0 34) - (sI st 0 35))) → w_X0_next_b217 Φ Φf st 1)
theorem t_X0_next_b198 {θ : Th} {κ : Kx} {Ph : Ph} (hX : LX θ) {d : Nat} (hd : 6 ≤ d) (C : Cx θ κ yX0_next cX0_next 2 (none : Option Jvm.ClassFile.FieldType) [] d) {Φ : St → Prop} {Φf : St → Nat → Prop} (hn : ∀ st, Φ st → Ph.1 st none) (hf : ∀ st a, a < gBIG → sh st a = 7 → Φf st a → Ph.2 st "SecretsWorth$Fault" (ad θ a)) (st : St) (h : w_X0_next_b198 Φ Φf st) : X θ κ Ph st 198 [(0, .ref (ad θ 0))] [] := by
  unfold w_X0_next_b198 at h
  refine X_aload_n C dX0_next_198 rfl 0 rfl (isRV_r _) ?_
  refine X_aload_n C dX0_next_199 rfl 0 rfl (isRV_r _) ?_
  refine X_getS (ci := 0) (j := 34) (q := (RX0, TX0, 49)) C rfl (by decide) q294 rfl dX0_next_200 (LX_S hX (k := 0) rfl) (v := .int (sI st 0 34)) rfl ?_
  refine X_aload_n C dX0_next_203 rfl 0 rfl (isRV_r _) ?_
  refine X_getS (ci := 0) (j := 35) (q := (RX0, TX0, 49)) C rfl (by decide) q295 rfl dX0_next_204 (LX_S hX (k := 0) rfl) (v := .int (sI st 0 35)) rfl ?_
  refine X_isub C dX0_next_207 ?_
  refine X_iconst (v := 4) C dX0_next_208 rfl ?_
  refine X_icmp_gt (tgt := 216) C dX0_next_209 (by decide) (fun c101 => ?_) (fun c101 => ?_)
  · have h := h.1 c101
    refine X_iconst (v := 0) C dX0_next_216 rfl ?_
    refine X_sub [] (lo2 := []) rfl ?_
    exact t_X0_next_b217 hX hd C hn hf st 0 h
  · have h := h.2 c101
    refine X_iconst (v := 1) C dX0_next_212 rfl ?_
    refine X_goto (tgt := 217) C dX0_next_213 (by decide) ?_
    refine X_sub [] (lo2 := []) rfl ?_
    exact t_X0_next_b217 hX hd C hn hf st 1 h
def w_X0_next_l74 (Φ : St → Prop) (Φf : St → Nat → Prop) (E108 : St → Nat → Prop) : Nat → St → Nat → Prop
  | 0, _, _ => False
  | n + 1, st, x1 => w_X0_isIn st 97 122 (fun (r125 : Int32) => ((r125 = 0) → E108 st x1) ∧ ((¬ r125 = 0) → w_X0_here st (fun (r134 : Int32) => w_J11_append st x1 (r134.toUInt32 % 65536).toInt32 (fun (s143 : St) (r142 : Nat) => ∀ s152, s152 = putI s143 0 34 ((sI s143 0 34) + 1) → w_X0_next_l74 Φ Φf E108 n s152 x1))))
theorem t_X0_next_l74 {θ : Th} {κ : Kx} {Ph : Ph} (hX : LX θ) {d : Nat} (hd : 6 ≤ d) (C : Cx θ κ yX0_next cX0_next 2 (none : Option Jvm.ClassFile.FieldType) [] d) {Φ : St → Prop} {Φf : St → Nat → Prop} (hn : ∀ st, Φ st → Ph.1 st none) (hf : ∀ st a, a < gBIG → sh st a = 7 → Φf st a → Ph.2 st "SecretsWorth$Fault" (ad θ a)) {E108 : St → Nat → Prop} (hE108 : ∀ (st : St) (x1 : Nat), sh st x1 = 11 → x1 < gBIG → E108 st x1 → X θ κ Ph st 108 [(0, .ref (ad θ 0)), (1, .ref (ad θ x1))] []) : ∀ (n : Nat) (st : St) (x1 : Nat), sh st x1 = 11 → x1 < gBIG → w_X0_next_l74 Φ Φf E108 n st x1 → X θ κ Ph st 74 [(0, .ref (ad θ 0)), (1, .ref (ad θ x1))] [] := by
  intro n
  induction n with
  | zero => intro st x1 hs_x1 hb_x1 h; exact h.elim
  | succ n hK74 =>
    intro st x1 hs_x1 hb_x1 h
    rw [w_X0_next_l74] at h
    refine X_aload_n C dX0_next_74 rfl 0 rfl (isRV_r _) ?_
    refine X_bipush (v := 97) C dX0_next_75 rfl ?_
    refine X_bipush (v := 122) C dX0_next_77 rfl ?_
    refine X_callVS (ci := 0) (q := (RX0, TX0, 49)) (As := [_, _]) (rest := []) C rfl (LX_S hX (k := 0) rfl) q958 q960 qs41 q132 q961 ⟨rfl, nm_X0_isIn⟩ rfl dX0_next_79 (m_X0_isIn (Cx_l C) hX (d := d - 1) (by omega) st 97 122 h) (by omega) (by decide) (Nat.le_of_ble_eq_true rfl) (fun s131 w126 hE127 hP128 => ?_) (fun s132 E129 q130 hE127 hP128 => ?_)
    rotate_left
    · exact False.elim hP128
    obtain ⟨r125, rfl, rfl, h⟩ := hP128
    refine X_tls ?_
    refine X_if_eq (tgt := 108) C dX0_next_82 (by decide) (fun c133 => ?_) (fun c133 => ?_)
    · have h := h.1 c133
      exact hE108 st x1 hs_x1 hb_x1 h
    · have h := h.2 c133
      refine X_aload_n C dX0_next_85 rfl 1 rfl (isRV_r _) ?_
      refine X_aload_n C dX0_next_86 rfl 0 rfl (isRV_r _) ?_
      refine X_callVS (ci := 0) (q := (RX0, TX0, 49)) (As := []) (rest := [_]) C rfl (LX_S hX (k := 0) rfl) q954 q956 qs40 q132 q957 ⟨rfl, nm_X0_here⟩ rfl dX0_next_87 (m_X0_here (Cx_l C) hX (d := d - 1) (by omega) st h) (by omega) (by decide) (Nat.le_of_ble_eq_true rfl) (fun s140 w135 hE136 hP137 => ?_) (fun s141 E138 q139 hE136 hP137 => ?_)
      rotate_left
      · exact False.elim hP137
      obtain ⟨r134, rfl, rfl, h⟩ := hP137
      refine X_tls ?_
      refine X_i2c C dX0_next_90 ?_
      refine X_callV (ci := 10) (q := (RJ11, TJ11, 4)) (As := [_]) (rest := []) C rfl hs_x1 q993 q994 q995 q151 q996 ⟨rfl, nm_J11_append⟩ rfl dX0_next_91 (m_J11_append (Cx_l C) hX (d := d - 1) (by omega) st x1 (r134.toUInt32 % 65536).toInt32 hs_x1 hb_x1 h) (by omega) (by decide) (Nat.le_of_ble_eq_true rfl) (fun s143 w144 hE145 hP146 => ?_) (fun s149 E147 q148 hE145 hP146 => ?_)
      rotate_left
      · exact False.elim hP146
      obtain ⟨r142, rfl, hb150, hs151, h⟩ := hP146
      refine X_tls ?_
      have hs_x1 := Ext_sh hE145 hs_x1 (by decide)
      refine X_pop C dX0_next_94 rfl ?_
      refine X_aload_n C dX0_next_95 rfl 0 rfl (isRV_r _) ?_
      refine X_dup C dX0_next_96 rfl ?_
      refine X_getS (ci := 0) (j := 34) (q := (RX0, TX0, 49)) C rfl (by decide) q294 rfl dX0_next_97 (LX_S hX (k := 0) rfl) (v := .int (sI s143 0 34)) rfl ?_
      refine X_iconst (v := 1) C dX0_next_100 rfl ?_
      refine X_iadd C dX0_next_101 ?_
      refine X_putSI (ci := 0) (j := 34) (q := (RX0, TX0, 49)) C rfl (by decide) q294 rfl rfl dX0_next_102 (LX_S hX (k := 0) rfl) rfl rfl rfl ?_
      refine X_nm (fun s152 e153 => ?_)
      have h := h s152 e153
      have hs_x1 : sh s152 x1 = 11 := by rw [e153]; exact hs_x1
      have hs151 : sh s152 r142 = 11 := by rw [e153]; exact hs151
      refine X_goto (tgt := 74) C dX0_next_105 (by decide) ?_
      exact hK74 s152 x1 hs_x1 hb_x1 h
def w_X0_next_b108 (Φ : St → Prop) (Φf : St → Nat → Prop) (st : St) (x1 : Nat) : Prop := w_J11_toString st x1 (fun (s156 : St) (r155 : Nat) => ∀ s165, s165 = putR s156 0 36 (some r155) → Φ s165)
theorem t_X0_next_b108 {θ : Th} {κ : Kx} {Ph : Ph} (hX : LX θ) {d : Nat} (hd : 6 ≤ d) (C : Cx θ κ yX0_next cX0_next 2 (none : Option Jvm.ClassFile.FieldType) [] d) {Φ : St → Prop} {Φf : St → Nat → Prop} (hn : ∀ st, Φ st → Ph.1 st none) (hf : ∀ st a, a < gBIG → sh st a = 7 → Φf st a → Ph.2 st "SecretsWorth$Fault" (ad θ a)) (st : St) (x1 : Nat) (hs_x1 : sh st x1 = 11) (hb_x1 : x1 < gBIG) (h : w_X0_next_b108 Φ Φf st x1) : X θ κ Ph st 108 [(0, .ref (ad θ 0)), (1, .ref (ad θ x1))] [] := by
  unfold w_X0_next_b108 at h
  refine X_aload_n C dX0_next_108 rfl 0 rfl (isRV_r _) ?_
  refine X_aload_n C dX0_next_109 rfl 1 rfl (isRV_r _) ?_
  refine X_callV (ci := 10) (q := (RJ11, TJ11, 4)) (As := []) (rest := [_]) C rfl hs_x1 q1086 q1087 q1088 q151 q1089 ⟨rfl, nm_J11_toString⟩ rfl dX0_next_110 (m_J11_toString (Cx_l C) hX (d := d - 1) (by omega) st x1 hs_x1 hb_x1 h) (by omega) (by decide) (Nat.le_of_ble_eq_true rfl) (fun s156 w157 hE158 hP159 => ?_) (fun s162 E160 q161 hE158 hP159 => ?_)
  rotate_left
  · exact False.elim hP159
  obtain ⟨r155, rfl, hb163, hs164, h⟩ := hP159
  refine X_tls ?_
  have hs_x1 := Ext_sh hE158 hs_x1 (by decide)
  refine X_putSR (v := (some r155)) (ci := 0) (j := 36) (q := (RX0, TX0, 49)) C rfl (by decide) q296 rfl rfl dX0_next_113 (LX_S hX (k := 0) rfl) (sv_R (Or.inl ⟨_, rfl⟩) _ _) (LX_N hX (k := 0) (j := 36) rfl) (nr_ref (Or.inl ⟨_, rfl⟩)).1 (nr_ref (Or.inl ⟨_, rfl⟩)).2 ?_
  refine X_nm (fun s165 e166 => ?_)
  have h := h s165 e166
  have hs_x1 : sh s165 x1 = 11 := by rw [e166]; exact hs_x1
  have hs164 : sh s165 r155 = 10 := by rw [e166]; exact hs164
  refine X_goto (tgt := 306) C dX0_next_116 (by decide) ?_
  exact X_vret C rfl dX0_next_306 (hn s165 h)
def w_X0_next_b31 (Φ : St → Prop) (Φf : St → Nat → Prop) (st : St) : Prop := ∀ s22, s22 = putI st 0 35 (sI st 0 34) → ∀ s26, s26 = putR s22 0 36 (some (gBIG + 2 * 0)) → ∀ s28, s28 = putI s26 0 37 (-1) → ∀ s30, s30 = putI s28 0 38 0 → w_X0_isIn s30 97 122 (fun (r32 : Int32) => ((r32 = 0) → w_X0_isIn s30 48 57 (fun (r41 : Int32) => ((r41 = 0) → (((sI s30 0 33) ≤ (sI s30 0 34)) → Φ s30) ∧ ((¬ (sI s30 0 33) ≤ (sI s30 0 34)) → w_X0_here s30 (fun (r51 : Int32) => ∀ s59, s59 = putI s30 0 38 r51 → (((sI s59 0 38) = 59) → w_X0_next_b288 Φ Φf s59) ∧ ((¬ (sI s59 0 38) = 59) → (((sI s59 0 38) = 44) → w_X0_next_b288 Φ Φf s59) ∧ ((¬ (sI s59 0 38) = 44) → (((sI s59 0 38) = 91) → w_X0_next_b288 Φ Φf s59) ∧ ((¬ (sI s59 0 38) = 91) → (((sI s59 0 38) = 93) → w_X0_next_b288 Φ Φf s59) ∧ ((¬ (sI s59 0 38) = 93) → (((sI s59 0 38) ≠ 45) → w_X0_next_b293 Φ Φf s59 0) ∧ (((sI s59 0 38) = 45) → w_X0_next_b288 Φ Φf s59)))))))) ∧ ((¬ r41 = 0) → ∀ s76, s76 = putI s30 0 37 0 → w_X0_next_l135 Φ Φf (fun (s100 : St) => w_X0_next_b198 Φ Φf s100) gFU s76))) ∧ ((¬ r32 = 0) → sN s30 + 1 ≤ gCAP ∧ sS s30 + 4 ≤ gCAPS ∧ ∀ s112, s112 = mk s30 11 4 → w_J11_init s112 (sN s30) (fun (s118 : St) => w_X0_next_l74 Φ Φf (fun (s154 : St) (x1 : Nat) => w_X0_next_b108 Φ Φf s154 x1) gFU s118 (sN s30))))
theorem t_X0_next_b31 {θ : Th} {κ : Kx} {Ph : Ph} (hX : LX θ) {d : Nat} (hd : 6 ≤ d) (C : Cx θ κ yX0_next cX0_next 2 (none : Option Jvm.ClassFile.FieldType) [] d) {Φ : St → Prop} {Φf : St → Nat → Prop} (hn : ∀ st, Φ st → Ph.1 st none) (hf : ∀ st a, a < gBIG → sh st a = 7 → Φf st a → Ph.2 st "SecretsWorth$Fault" (ad θ a)) (st : St) (h : w_X0_next_b31 Φ Φf st) : X θ κ Ph st 31 [(0, .ref (ad θ 0))] [] := by
  unfold w_X0_next_b31 at h
  refine X_aload_n C dX0_next_31 rfl 0 rfl (isRV_r _) ?_
  refine X_aload_n C dX0_next_32 rfl 0 rfl (isRV_r _) ?_
  refine X_getS (ci := 0) (j := 34) (q := (RX0, TX0, 49)) C rfl (by decide) q294 rfl dX0_next_33 (LX_S hX (k := 0) rfl) (v := .int (sI st 0 34)) rfl ?_
  refine X_putSI (ci := 0) (j := 35) (q := (RX0, TX0, 49)) C rfl (by decide) q295 rfl rfl dX0_next_36 (LX_S hX (k := 0) rfl) rfl rfl rfl ?_
  refine X_nm (fun s22 e23 => ?_)
  have h := h s22 e23
  refine X_aload_n C dX0_next_39 rfl 0 rfl (isRV_r _) ?_
  refine X_ldcs (tx := "") (i := 0) C (by decide +kernel) dX0_next_40 ?_
  refine X_con (fun hc24 => ?_)
  have hs25 : sh s22 (gBIG + 2 * 0) = 10 := con_str hc24 (by decide)
  refine X_putSR (v := (some (gBIG + 2 * 0))) (ci := 0) (j := 36) (q := (RX0, TX0, 49)) C rfl (by decide) q296 rfl rfl dX0_next_42 (LX_S hX (k := 0) rfl) (sv_R (Or.inl ⟨_, rfl⟩) _ _) (LX_N hX (k := 0) (j := 36) rfl) (nr_ref (Or.inl ⟨_, rfl⟩)).1 (nr_ref (Or.inl ⟨_, rfl⟩)).2 ?_
  refine X_nm (fun s26 e27 => ?_)
  have h := h s26 e27
  have hs25 : sh s26 (gBIG + 2 * 0) = 10 := by rw [e27]; exact hs25
  refine X_aload_n C dX0_next_45 rfl 0 rfl (isRV_r _) ?_
  refine X_iconst (v := (-1)) C dX0_next_46 rfl ?_
  refine X_putSI (ci := 0) (j := 37) (q := (RX0, TX0, 49)) C rfl (by decide) q297 rfl rfl dX0_next_47 (LX_S hX (k := 0) rfl) rfl rfl rfl ?_
  refine X_nm (fun s28 e29 => ?_)
  have h := h s28 e29
  have hs25 : sh s28 (gBIG + 2 * 0) = 10 := by rw [e29]; exact hs25
  refine X_aload_n C dX0_next_50 rfl 0 rfl (isRV_r _) ?_
  refine X_iconst (v := 0) C dX0_next_51 rfl ?_
  refine X_putSI (ci := 0) (j := 38) (q := (RX0, TX0, 49)) C rfl (by decide) q298 rfl rfl dX0_next_52 (LX_S hX (k := 0) rfl) rfl rfl rfl ?_
  refine X_nm (fun s30 e31 => ?_)
  have h := h s30 e31
  have hs25 : sh s30 (gBIG + 2 * 0) = 10 := by rw [e31]; exact hs25
  refine X_aload_n C dX0_next_55 rfl 0 rfl (isRV_r _) ?_
  refine X_bipush (v := 97) C dX0_next_56 rfl ?_
  refine X_bipush (v := 122) C dX0_next_58 rfl ?_
  refine X_callVS (ci := 0) (q := (RX0, TX0, 49)) (As := [_, _]) (rest := []) C rfl (LX_S hX (k := 0) rfl) q958 q960 qs41 q132 q961 ⟨rfl, nm_X0_isIn⟩ rfl dX0_next_60 (m_X0_isIn (Cx_l C) hX (d := d - 1) (by omega) s30 97 122 h) (by omega) (by decide) (Nat.le_of_ble_eq_true rfl) (fun s38 w33 hE34 hP35 => ?_) (fun s39 E36 q37 hE34 hP35 => ?_)
  rotate_left
  · exact False.elim hP35
  obtain ⟨r32, rfl, rfl, h⟩ := hP35
  refine X_tls ?_
  refine X_if_eq (tgt := 119) C dX0_next_63 (by decide) (fun c40 => ?_) (fun c40 => ?_)
  · have h := h.1 c40
    refine X_aload_n C dX0_next_119 rfl 0 rfl (isRV_r _) ?_
    refine X_bipush (v := 48) C dX0_next_120 rfl ?_
    refine X_bipush (v := 57) C dX0_next_122 rfl ?_
    refine X_callVS (ci := 0) (q := (RX0, TX0, 49)) (As := [_, _]) (rest := []) C rfl (LX_S hX (k := 0) rfl) q958 q960 qs41 q132 q961 ⟨rfl, nm_X0_isIn⟩ rfl dX0_next_124 (m_X0_isIn (Cx_l C) hX (d := d - 1) (by omega) s30 48 57 h) (by omega) (by decide) (Nat.le_of_ble_eq_true rfl) (fun s47 w42 hE43 hP44 => ?_) (fun s48 E45 q46 hE43 hP44 => ?_)
    rotate_left
    · exact False.elim hP44
    obtain ⟨r41, rfl, rfl, h⟩ := hP44
    refine X_tls ?_
    refine X_if_eq (tgt := 223) C dX0_next_127 (by decide) (fun c49 => ?_) (fun c49 => ?_)
    · have h := h.1 c49
      refine X_aload_n C dX0_next_223 rfl 0 rfl (isRV_r _) ?_
      refine X_getS (ci := 0) (j := 34) (q := (RX0, TX0, 49)) C rfl (by decide) q294 rfl dX0_next_224 (LX_S hX (k := 0) rfl) (v := .int (sI s30 0 34)) rfl ?_
      refine X_aload_n C dX0_next_227 rfl 0 rfl (isRV_r _) ?_
      refine X_getS (ci := 0) (j := 33) (q := (RX0, TX0, 49)) C rfl (by decide) q293 rfl dX0_next_228 (LX_S hX (k := 0) rfl) (v := .int (sI s30 0 33)) rfl ?_
      refine X_icmp_ge (tgt := 306) C dX0_next_231 (by decide) (fun c50 => ?_) (fun c50 => ?_)
      · have h := h.1 c50
        exact X_vret C rfl dX0_next_306 (hn s30 h)
      · have h := h.2 c50
        refine X_aload_n C dX0_next_234 rfl 0 rfl (isRV_r _) ?_
        refine X_aload_n C dX0_next_235 rfl 0 rfl (isRV_r _) ?_
        refine X_callVS (ci := 0) (q := (RX0, TX0, 49)) (As := []) (rest := [_]) C rfl (LX_S hX (k := 0) rfl) q954 q956 qs40 q132 q957 ⟨rfl, nm_X0_here⟩ rfl dX0_next_236 (m_X0_here (Cx_l C) hX (d := d - 1) (by omega) s30 h) (by omega) (by decide) (Nat.le_of_ble_eq_true rfl) (fun s57 w52 hE53 hP54 => ?_) (fun s58 E55 q56 hE53 hP54 => ?_)
        rotate_left
        · exact False.elim hP54
        obtain ⟨r51, rfl, rfl, h⟩ := hP54
        refine X_tls ?_
        refine X_putSI (ci := 0) (j := 38) (q := (RX0, TX0, 49)) C rfl (by decide) q298 rfl rfl dX0_next_239 (LX_S hX (k := 0) rfl) rfl rfl rfl ?_
        refine X_nm (fun s59 e60 => ?_)
        have h := h s59 e60
        have hs25 : sh s59 (gBIG + 2 * 0) = 10 := by rw [e60]; exact hs25
        refine X_aload_n C dX0_next_242 rfl 0 rfl (isRV_r _) ?_
        refine X_aload_n C dX0_next_243 rfl 0 rfl (isRV_r _) ?_
        refine X_getS (ci := 0) (j := 38) (q := (RX0, TX0, 49)) C rfl (by decide) q298 rfl dX0_next_244 (LX_S hX (k := 0) rfl) (v := .int (sI s59 0 38)) rfl ?_
        refine X_bipush (v := 59) C dX0_next_247 rfl ?_
        refine X_icmp_eq (tgt := 288) C dX0_next_249 (by decide) (fun c61 => ?_) (fun c61 => ?_)
        · have h := h.1 c61
          exact t_X0_next_b288 hX hd C hn hf s59 h
        · have h := h.2 c61
          refine X_aload_n C dX0_next_252 rfl 0 rfl (isRV_r _) ?_
          refine X_getS (ci := 0) (j := 38) (q := (RX0, TX0, 49)) C rfl (by decide) q298 rfl dX0_next_253 (LX_S hX (k := 0) rfl) (v := .int (sI s59 0 38)) rfl ?_
          refine X_bipush (v := 44) C dX0_next_256 rfl ?_
          refine X_icmp_eq (tgt := 288) C dX0_next_258 (by decide) (fun c72 => ?_) (fun c72 => ?_)
          · have h := h.1 c72
            exact t_X0_next_b288 hX hd C hn hf s59 h
          · have h := h.2 c72
            refine X_aload_n C dX0_next_261 rfl 0 rfl (isRV_r _) ?_
            refine X_getS (ci := 0) (j := 38) (q := (RX0, TX0, 49)) C rfl (by decide) q298 rfl dX0_next_262 (LX_S hX (k := 0) rfl) (v := .int (sI s59 0 38)) rfl ?_
            refine X_bipush (v := 91) C dX0_next_265 rfl ?_
            refine X_icmp_eq (tgt := 288) C dX0_next_267 (by decide) (fun c73 => ?_) (fun c73 => ?_)
            · have h := h.1 c73
              exact t_X0_next_b288 hX hd C hn hf s59 h
            · have h := h.2 c73
              refine X_aload_n C dX0_next_270 rfl 0 rfl (isRV_r _) ?_
              refine X_getS (ci := 0) (j := 38) (q := (RX0, TX0, 49)) C rfl (by decide) q298 rfl dX0_next_271 (LX_S hX (k := 0) rfl) (v := .int (sI s59 0 38)) rfl ?_
              refine X_bipush (v := 93) C dX0_next_274 rfl ?_
              refine X_icmp_eq (tgt := 288) C dX0_next_276 (by decide) (fun c74 => ?_) (fun c74 => ?_)
              · have h := h.1 c74
                exact t_X0_next_b288 hX hd C hn hf s59 h
              · have h := h.2 c74
                refine X_aload_n C dX0_next_279 rfl 0 rfl (isRV_r _) ?_
                refine X_getS (ci := 0) (j := 38) (q := (RX0, TX0, 49)) C rfl (by decide) q298 rfl dX0_next_280 (LX_S hX (k := 0) rfl) (v := .int (sI s59 0 38)) rfl ?_
                refine X_bipush (v := 45) C dX0_next_283 rfl ?_
                refine X_icmp_ne (tgt := 292) C dX0_next_285 (by decide) (fun c75 => ?_) (fun c75 => ?_)
                · have h := h.1 c75
                  refine X_iconst (v := 0) C dX0_next_292 rfl ?_
                  exact t_X0_next_b293 hX hd C hn hf s59 0 h
                · have h := h.2 c75
                  exact t_X0_next_b288 hX hd C hn hf s59 h
    · have h := h.2 c49
      refine X_aload_n C dX0_next_130 rfl 0 rfl (isRV_r _) ?_
      refine X_iconst (v := 0) C dX0_next_131 rfl ?_
      refine X_putSI (ci := 0) (j := 37) (q := (RX0, TX0, 49)) C rfl (by decide) q297 rfl rfl dX0_next_132 (LX_S hX (k := 0) rfl) rfl rfl rfl ?_
      refine X_nm (fun s76 e77 => ?_)
      have h := h s76 e77
      have hs25 : sh s76 (gBIG + 2 * 0) = 10 := by rw [e77]; exact hs25
      refine t_X0_next_l135 hX hd C hn hf ?_ gFU s76 h
      · intro s100 h
        exact t_X0_next_b198 hX hd C hn hf s100 h
  · have h := h.2 c40
    have g110 := h.1
    have h := h.2
    have g111 := h.1
    have h := h.2
    refine X_new (ci := 10) (q := (RJ11, TJ11, 4)) C rfl q962 q963 q151 g110 g111 dX0_next_66 (fun hE114 => ?_)
    refine X_nm (fun s112 e113 => ?_)
    have h := h s112 e113
    rw [← e113] at hE114
    have hs25 := Ext_sh hE114 hs25 (by decide)
    have hs115 : sh s112 (sN s30) = 11 := by rw [e113]; exact sh_mk
    have hb116 := nb_N g110
    refine X_dup C dX0_next_69 rfl ?_
    refine X_callI (As := []) (rest := [_]) C q964 q965 q151 q966 rfl nm_J11_init rfl dX0_next_70 (m_J11_init (Cx_l C) hX (d := d - 1) (by omega) s112 (sN s30) hs115 hb116 h) (by omega) (by decide) (Nat.le_of_ble_eq_true rfl) (fun s118 w119 hE120 hP121 => ?_) (fun s124 E122 q123 hE120 hP121 => ?_)
    rotate_left
    · exact False.elim hP121
    obtain ⟨rfl, h⟩ := hP121
    refine X_tln ?_
    have hs25 := Ext_sh hE120 hs25 (by decide)
    have hs115 := Ext_sh hE120 hs115 (by decide)
    refine X_astore_n C dX0_next_73 rfl (isRV_r _) (lo2 := [(1, _), (0, _)]) (by decide) rfl ?_
    refine X_sub [1, 0] (lo2 := [(0, _), (1, _)]) rfl ?_
    refine t_X0_next_l74 hX hd C hn hf ?_ gFU s118 (sN s30) hs115 hb116 h
    · intro s154 x1 hs_x1 hb_x1 h
      exact t_X0_next_b108 hX hd C hn hf s154 x1 hs_x1 hb_x1 h
def w_X0_next (st : St) (Φ : St → Prop) (Φf : St → Nat → Prop) : Prop := w_X0_next_l0 Φ Φf (fun (s21 : St) => w_X0_next_b31 Φ Φf s21) gFU st
theorem e_X0_next : plainFor yX0_next = true := plainFor_of_name (by decide +kernel)
theorem m_X0_next {θ : Th} {l : Launch} (hl0 : l.stackTraces = false) (hX : LX θ) {d : Nat} (hd : 6 ≤ d) (st : St) {Φ : St → Prop} {Φf : St → Nat → Prop} (h : w_X0_next st Φ Φf) : Ct θ l yX0_next (ws_ yX0_next cX0_next 2 (none : Option Jvm.ClassFile.FieldType)) d [.ref (ad θ 0)] st (pV Φ, (exF θ Φf)) := by
  refine Ct_entry hl0 e_X0_next (Nat.le_of_ble_eq_true rfl) (fun κ hκ _ C => ?_)
  have hn : ∀ st, Φ st → ((pV Φ, (exF θ Φf)) : Ph).1 st none := fun st q => ⟨rfl, q⟩
  have hf : ∀ st a, a < gBIG → sh st a = 7 → Φf st a → ((pV Φ, (exF θ Φf)) : Ph).2 st "SecretsWorth$Fault" (ad θ a) := fun st a q1 q2 q => ⟨rfl, a, rfl, q1, q2, q⟩
  change X _ _ _ _ _ [(0, .ref (ad θ 0))] _
  unfold w_X0_next at h
  refine t_X0_next_l0 hX hd C hn hf ?_ gFU st h
  · intro s21 h
    exact t_X0_next_b31 hX hd C hn hf s21 h

theorem nm_X0_isVerb : yX0_isVerb.cls ≠ "java/lang/invoke/MethodHandle" ∧ yX0_isVerb.cls ≠ "java/lang/invoke/VarHandle" ∧ (parseMethodDescriptor yX0_isVerb.desc).map (fun d => d.parameters.length) = some 1 := by decide +kernel
def w_X0_isVerb_b179 (Φ : St → Int32 → Prop) (st : St) (x2 : Int32) : Prop := (x2 = 0 → Φ st 1) ∧ (x2 = 1 → Φ st 1) ∧ (x2 = 2 → Φ st 1) ∧ (x2 = 3 → Φ st 1) ∧ (x2 = 4 → Φ st 1) ∧ (x2 = 5 → Φ st 1) ∧ (x2 = 6 → Φ st 1) ∧ (x2.toInt < 0 ∨ 6 < x2.toInt → Φ st 0)
theorem t_X0_isVerb_b179 {θ : Th} {κ : Kx} {Ph : Ph} (hX : LX θ) {d : Nat} (hd : 4 ≤ d) (C : Cx θ κ yX0_isVerb cX0_isVerb 3 (some Jvm.ClassFile.FieldType.boolean) [] d) {Φ : St → Int32 → Prop} (hn : ∀ st r, Φ st r → Ph.1 st (some (.int r))) (st : St) (x2 : Int32) (h : w_X0_isVerb_b179 Φ st x2) : X θ κ Ph st 179 [(2, .int x2)] [] := by
  unfold w_X0_isVerb_b179 at h
  refine X_iload_n C dX0_isVerb_179 rfl 0 rfl ?_
  by_cases c20 : x2 = 0
  · have h := h.1 c20
    refine X_tableIn (tgt := 224) C dX0_isVerb_180 (by rw [c20]; decide) (by rw [c20]; decide) (off := 44) (by rw [c20]; rfl) (by decide) ?_
    refine X_iconst (v := 1) C dX0_isVerb_224 rfl ?_
    refine X_goto (tgt := 229) C dX0_isVerb_225 (by decide) ?_
    exact X_zret C rfl rfl dX0_isVerb_229 (hn st _ h)
  have h := h.2
  by_cases c21 : x2 = 1
  · have h := h.1 c21
    refine X_tableIn (tgt := 224) C dX0_isVerb_180 (by rw [c21]; decide) (by rw [c21]; decide) (off := 44) (by rw [c21]; rfl) (by decide) ?_
    refine X_iconst (v := 1) C dX0_isVerb_224 rfl ?_
    refine X_goto (tgt := 229) C dX0_isVerb_225 (by decide) ?_
    exact X_zret C rfl rfl dX0_isVerb_229 (hn st _ h)
  have h := h.2
  by_cases c22 : x2 = 2
  · have h := h.1 c22
    refine X_tableIn (tgt := 224) C dX0_isVerb_180 (by rw [c22]; decide) (by rw [c22]; decide) (off := 44) (by rw [c22]; rfl) (by decide) ?_
    refine X_iconst (v := 1) C dX0_isVerb_224 rfl ?_
    refine X_goto (tgt := 229) C dX0_isVerb_225 (by decide) ?_
    exact X_zret C rfl rfl dX0_isVerb_229 (hn st _ h)
  have h := h.2
  by_cases c23 : x2 = 3
  · have h := h.1 c23
    refine X_tableIn (tgt := 224) C dX0_isVerb_180 (by rw [c23]; decide) (by rw [c23]; decide) (off := 44) (by rw [c23]; rfl) (by decide) ?_
    refine X_iconst (v := 1) C dX0_isVerb_224 rfl ?_
    refine X_goto (tgt := 229) C dX0_isVerb_225 (by decide) ?_
    exact X_zret C rfl rfl dX0_isVerb_229 (hn st _ h)
  have h := h.2
  by_cases c24 : x2 = 4
  · have h := h.1 c24
    refine X_tableIn (tgt := 224) C dX0_isVerb_180 (by rw [c24]; decide) (by rw [c24]; decide) (off := 44) (by rw [c24]; rfl) (by decide) ?_
    refine X_iconst (v := 1) C dX0_isVerb_224 rfl ?_
    refine X_goto (tgt := 229) C dX0_isVerb_225 (by decide) ?_
    exact X_zret C rfl rfl dX0_isVerb_229 (hn st _ h)
  have h := h.2
  by_cases c25 : x2 = 5
  · have h := h.1 c25
    refine X_tableIn (tgt := 224) C dX0_isVerb_180 (by rw [c25]; decide) (by rw [c25]; decide) (off := 44) (by rw [c25]; rfl) (by decide) ?_
    refine X_iconst (v := 1) C dX0_isVerb_224 rfl ?_
    refine X_goto (tgt := 229) C dX0_isVerb_225 (by decide) ?_
    exact X_zret C rfl rfl dX0_isVerb_229 (hn st _ h)
  have h := h.2
  by_cases c26 : x2 = 6
  · have h := h.1 c26
    refine X_tableIn (tgt := 224) C dX0_isVerb_180 (by rw [c26]; decide) (by rw [c26]; decide) (off := 44) (by rw [c26]; rfl) (by decide) ?_
    refine X_iconst (v := 1) C dX0_isVerb_224 rfl ?_
    refine X_goto (tgt := 229) C dX0_isVerb_225 (by decide) ?_
    exact X_zret C rfl rfl dX0_isVerb_229 (hn st _ h)
  have h := h.2
  have c27 : x2.toInt < 0 ∨ 6 < x2.toInt := by
    have qc20 := ne_toInt c20
    have qc21 := ne_toInt c21
    have qc22 := ne_toInt c22
    have qc23 := ne_toInt c23
    have qc24 := ne_toInt c24
    have qc25 := ne_toInt c25
    have qc26 := ne_toInt c26
    simp only [Int32.reduceToInt] at qc20 qc21 qc22 qc23 qc24 qc25 qc26
    omega
  refine X_tableOut (tgt := 228) C dX0_isVerb_180 c27 (by decide) ?_
  have h := h c27
  refine X_iconst (v := 0) C dX0_isVerb_228 rfl ?_
  exact X_zret C rfl rfl dX0_isVerb_229 (hn st _ h)
def w_X0_isVerb (st : St) (p1 : Nat) (Φ : St → Int32 → Prop) : Prop := w_J6_hashCode st p1 (fun (s2 : St) (r1 : Int32) => (r1 = (-892482046) → w_J6_equals s2 p1 (gBIG + 2 * 2) (fun (r11 : Int32) => ((r11 = 0) → w_X0_isVerb_b179 Φ s2 (-1)) ∧ ((¬ r11 = 0) → w_X0_isVerb_b179 Φ s2 0))) ∧ (r1 = (-880905839) → w_J6_equals s2 p1 (gBIG + 2 * 7) (fun (r31 : Int32) => ((r31 = 0) → w_X0_isVerb_b179 Φ s2 (-1)) ∧ ((¬ r31 = 0) → w_X0_isVerb_b179 Φ s2 5))) ∧ (r1 = 3165170 → w_J6_equals s2 p1 (gBIG + 2 * 5) (fun (r43 : Int32) => ((r43 = 0) → w_X0_isVerb_b179 Φ s2 (-1)) ∧ ((¬ r43 = 0) → w_X0_isVerb_b179 Φ s2 3))) ∧ (r1 = 3530753 → w_J6_equals s2 p1 (gBIG + 2 * 4) (fun (r55 : Int32) => ((r55 = 0) → w_X0_isVerb_b179 Φ s2 (-1)) ∧ ((¬ r55 = 0) → w_X0_isVerb_b179 Φ s2 2))) ∧ (r1 = 3568542 → w_J6_equals s2 p1 (gBIG + 2 * 8) (fun (r67 : Int32) => ((r67 = 0) → w_X0_isVerb_b179 Φ s2 (-1)) ∧ ((¬ r67 = 0) → w_X0_isVerb_b179 Φ s2 6))) ∧ (r1 = 106437344 → w_J6_equals s2 p1 (gBIG + 2 * 3) (fun (r79 : Int32) => ((r79 = 0) → w_X0_isVerb_b179 Φ s2 (-1)) ∧ ((¬ r79 = 0) → w_X0_isVerb_b179 Φ s2 1))) ∧ (r1 = 106934986 → w_J6_equals s2 p1 (gBIG + 2 * 6) (fun (r91 : Int32) => ((r91 = 0) → w_X0_isVerb_b179 Φ s2 (-1)) ∧ ((¬ r91 = 0) → w_X0_isVerb_b179 Φ s2 4))) ∧ (¬ r1 = (-892482046) → ¬ r1 = (-880905839) → ¬ r1 = 3165170 → ¬ r1 = 3530753 → ¬ r1 = 3568542 → ¬ r1 = 106437344 → ¬ r1 = 106934986 → w_X0_isVerb_b179 Φ s2 (-1)))
theorem e_X0_isVerb : plainFor yX0_isVerb = true := plainFor_of_name (by decide +kernel)
theorem m_X0_isVerb {θ : Th} {l : Launch} (hl0 : l.stackTraces = false) (hX : LX θ) {d : Nat} (hd : 4 ≤ d) (st : St) (p1 : Nat) (hs_p1 : sh st p1 = 10) {Φ : St → Int32 → Prop} (h : w_X0_isVerb st p1 Φ) : Ct θ l yX0_isVerb (ws_ yX0_isVerb cX0_isVerb 3 (some Jvm.ClassFile.FieldType.boolean)) d [.ref (ad θ p1)] st (pI Φ, noX) := by
  refine Ct_entry hl0 e_X0_isVerb (Nat.le_of_ble_eq_true rfl) (fun κ hκ _ C => ?_)
  have hn : ∀ st r, Φ st r → ((pI Φ, noX) : Ph).1 st (some (.int r)) := fun st r q => ⟨r, rfl, q⟩
  change X _ _ _ _ _ [(0, .ref (ad θ p1))] _
  unfold w_X0_isVerb at h
  refine X_aload_n C dX0_isVerb_0 rfl 0 rfl (isRV_r _) ?_
  refine X_astore_n C dX0_isVerb_1 rfl (isRV_r _) (lo2 := [(1, _), (0, _)]) (by decide) rfl ?_
  refine X_iconst (v := (-1)) C dX0_isVerb_2 rfl ?_
  refine X_istore_n C dX0_isVerb_3 rfl (lo2 := [(2, _), (1, _), (0, _)]) (by decide) rfl ?_
  refine X_aload_n C dX0_isVerb_4 rfl 1 rfl (isRV_r _) ?_
  refine X_callV (ci := 9) (q := (RJ6, TJ6, 4)) (As := []) (rest := []) C rfl hs_p1 q1173 q1174 q1175 q144 q1176 ⟨rfl, nm_J6_hashCode⟩ rfl dX0_isVerb_5 (m_J6_hashCode (Cx_l C) hX (d := d - 1) (by omega) st p1 hs_p1 h) (by omega) (by decide) (Nat.le_of_ble_eq_true rfl) (fun s2 w3 hE4 hP5 => ?_) (fun s8 E6 q7 hE4 hP5 => ?_)
  rotate_left
  · exact False.elim hP5
  obtain ⟨r1, rfl, h⟩ := hP5
  refine X_tls ?_
  have hs_p1 := Ext_sh hE4 hs_p1 (by decide)
  by_cases c28 : r1 = (-892482046)
  · have h := h.1 c28
    refine X_lookup (tgt := 76) C dX0_isVerb_8 (by decide) (off := 68) (by rw [c28]; rfl) (by decide) ?_
    refine X_aload_n C dX0_isVerb_76 rfl 1 rfl (isRV_r _) ?_
    refine X_ldcws (tx := "states") (i := 2) C (by decide +kernel) dX0_isVerb_77 ?_
    refine X_con (fun hc9 => ?_)
    have hs10 : sh s2 (gBIG + 2 * 2) = 10 := con_str hc9 (by decide)
    refine X_callV (ci := 9) (q := (RJ6, TJ6, 4)) (As := [_]) (rest := []) C rfl hs_p1 q1227 q1228 q1229 q144 q1230 ⟨rfl, nm_J6_equals⟩ rfl dX0_isVerb_80 (m_J6_equals (Cx_l C) hX (d := d - 1) (by omega) s2 p1 (gBIG + 2 * 2) hs_p1 hs10 h) (by omega) (by decide) (Nat.le_of_ble_eq_true rfl) (fun s17 w12 hE13 hP14 => ?_) (fun s18 E15 q16 hE13 hP14 => ?_)
    rotate_left
    · exact False.elim hP14
    obtain ⟨r11, rfl, rfl, h⟩ := hP14
    refine X_tls ?_
    refine X_if_eq (tgt := 179) C dX0_isVerb_83 (by decide) (fun c19 => ?_) (fun c19 => ?_)
    · have h := h.1 c19
      refine X_sub [0] (lo2 := [(2, _)]) rfl ?_
      exact t_X0_isVerb_b179 hX hd C hn s2 (-1) h
    · have h := h.2 c19
      refine X_iconst (v := 0) C dX0_isVerb_86 rfl ?_
      refine X_istore_n C dX0_isVerb_87 rfl (lo2 := [(2, _), (1, _), (0, _)]) (by decide) rfl ?_
      refine X_goto (tgt := 179) C dX0_isVerb_88 (by decide) ?_
      refine X_sub [0] (lo2 := [(2, _)]) rfl ?_
      exact t_X0_isVerb_b179 hX hd C hn s2 0 h
  have h := h.2
  by_cases c40 : r1 = (-880905839)
  · have h := h.1 c40
    refine X_lookup (tgt := 151) C dX0_isVerb_8 (by decide) (off := 143) (by rw [c40]; rfl) (by decide) ?_
    refine X_aload_n C dX0_isVerb_151 rfl 1 rfl (isRV_r _) ?_
    refine X_ldcws (tx := "target") (i := 7) C (by decide +kernel) dX0_isVerb_152 ?_
    refine X_con (fun hc29 => ?_)
    have hs30 : sh s2 (gBIG + 2 * 7) = 10 := con_str hc29 (by decide)
    refine X_callV (ci := 9) (q := (RJ6, TJ6, 4)) (As := [_]) (rest := []) C rfl hs_p1 q1227 q1228 q1229 q144 q1230 ⟨rfl, nm_J6_equals⟩ rfl dX0_isVerb_155 (m_J6_equals (Cx_l C) hX (d := d - 1) (by omega) s2 p1 (gBIG + 2 * 7) hs_p1 hs30 h) (by omega) (by decide) (Nat.le_of_ble_eq_true rfl) (fun s37 w32 hE33 hP34 => ?_) (fun s38 E35 q36 hE33 hP34 => ?_)
    rotate_left
    · exact False.elim hP34
    obtain ⟨r31, rfl, rfl, h⟩ := hP34
    refine X_tls ?_
    refine X_if_eq (tgt := 179) C dX0_isVerb_158 (by decide) (fun c39 => ?_) (fun c39 => ?_)
    · have h := h.1 c39
      refine X_sub [0] (lo2 := [(2, _)]) rfl ?_
      exact t_X0_isVerb_b179 hX hd C hn s2 (-1) h
    · have h := h.2 c39
      refine X_iconst (v := 5) C dX0_isVerb_161 rfl ?_
      refine X_istore_n C dX0_isVerb_162 rfl (lo2 := [(2, _), (1, _), (0, _)]) (by decide) rfl ?_
      refine X_goto (tgt := 179) C dX0_isVerb_163 (by decide) ?_
      refine X_sub [0] (lo2 := [(2, _)]) rfl ?_
      exact t_X0_isVerb_b179 hX hd C hn s2 5 h
  have h := h.2
  by_cases c52 : r1 = 3165170
  · have h := h.1 c52
    refine X_lookup (tgt := 121) C dX0_isVerb_8 (by decide) (off := 113) (by rw [c52]; rfl) (by decide) ?_
    refine X_aload_n C dX0_isVerb_121 rfl 1 rfl (isRV_r _) ?_
    refine X_ldcws (tx := "game") (i := 5) C (by decide +kernel) dX0_isVerb_122 ?_
    refine X_con (fun hc41 => ?_)
    have hs42 : sh s2 (gBIG + 2 * 5) = 10 := con_str hc41 (by decide)
    refine X_callV (ci := 9) (q := (RJ6, TJ6, 4)) (As := [_]) (rest := []) C rfl hs_p1 q1227 q1228 q1229 q144 q1230 ⟨rfl, nm_J6_equals⟩ rfl dX0_isVerb_125 (m_J6_equals (Cx_l C) hX (d := d - 1) (by omega) s2 p1 (gBIG + 2 * 5) hs_p1 hs42 h) (by omega) (by decide) (Nat.le_of_ble_eq_true rfl) (fun s49 w44 hE45 hP46 => ?_) (fun s50 E47 q48 hE45 hP46 => ?_)
    rotate_left
    · exact False.elim hP46
    obtain ⟨r43, rfl, rfl, h⟩ := hP46
    refine X_tls ?_
    refine X_if_eq (tgt := 179) C dX0_isVerb_128 (by decide) (fun c51 => ?_) (fun c51 => ?_)
    · have h := h.1 c51
      refine X_sub [0] (lo2 := [(2, _)]) rfl ?_
      exact t_X0_isVerb_b179 hX hd C hn s2 (-1) h
    · have h := h.2 c51
      refine X_iconst (v := 3) C dX0_isVerb_131 rfl ?_
      refine X_istore_n C dX0_isVerb_132 rfl (lo2 := [(2, _), (1, _), (0, _)]) (by decide) rfl ?_
      refine X_goto (tgt := 179) C dX0_isVerb_133 (by decide) ?_
      refine X_sub [0] (lo2 := [(2, _)]) rfl ?_
      exact t_X0_isVerb_b179 hX hd C hn s2 3 h
  have h := h.2
  by_cases c64 : r1 = 3530753
  · have h := h.1 c64
    refine X_lookup (tgt := 106) C dX0_isVerb_8 (by decide) (off := 98) (by rw [c64]; rfl) (by decide) ?_
    refine X_aload_n C dX0_isVerb_106 rfl 1 rfl (isRV_r _) ?_
    refine X_ldcws (tx := "size") (i := 4) C (by decide +kernel) dX0_isVerb_107 ?_
    refine X_con (fun hc53 => ?_)
    have hs54 : sh s2 (gBIG + 2 * 4) = 10 := con_str hc53 (by decide)
    refine X_callV (ci := 9) (q := (RJ6, TJ6, 4)) (As := [_]) (rest := []) C rfl hs_p1 q1227 q1228 q1229 q144 q1230 ⟨rfl, nm_J6_equals⟩ rfl dX0_isVerb_110 (m_J6_equals (Cx_l C) hX (d := d - 1) (by omega) s2 p1 (gBIG + 2 * 4) hs_p1 hs54 h) (by omega) (by decide) (Nat.le_of_ble_eq_true rfl) (fun s61 w56 hE57 hP58 => ?_) (fun s62 E59 q60 hE57 hP58 => ?_)
    rotate_left
    · exact False.elim hP58
    obtain ⟨r55, rfl, rfl, h⟩ := hP58
    refine X_tls ?_
    refine X_if_eq (tgt := 179) C dX0_isVerb_113 (by decide) (fun c63 => ?_) (fun c63 => ?_)
    · have h := h.1 c63
      refine X_sub [0] (lo2 := [(2, _)]) rfl ?_
      exact t_X0_isVerb_b179 hX hd C hn s2 (-1) h
    · have h := h.2 c63
      refine X_iconst (v := 2) C dX0_isVerb_116 rfl ?_
      refine X_istore_n C dX0_isVerb_117 rfl (lo2 := [(2, _), (1, _), (0, _)]) (by decide) rfl ?_
      refine X_goto (tgt := 179) C dX0_isVerb_118 (by decide) ?_
      refine X_sub [0] (lo2 := [(2, _)]) rfl ?_
      exact t_X0_isVerb_b179 hX hd C hn s2 2 h
  have h := h.2
  by_cases c76 : r1 = 3568542
  · have h := h.1 c76
    refine X_lookup (tgt := 166) C dX0_isVerb_8 (by decide) (off := 158) (by rw [c76]; rfl) (by decide) ?_
    refine X_aload_n C dX0_isVerb_166 rfl 1 rfl (isRV_r _) ?_
    refine X_ldcws (tx := "tree") (i := 8) C (by decide +kernel) dX0_isVerb_167 ?_
    refine X_con (fun hc65 => ?_)
    have hs66 : sh s2 (gBIG + 2 * 8) = 10 := con_str hc65 (by decide)
    refine X_callV (ci := 9) (q := (RJ6, TJ6, 4)) (As := [_]) (rest := []) C rfl hs_p1 q1227 q1228 q1229 q144 q1230 ⟨rfl, nm_J6_equals⟩ rfl dX0_isVerb_170 (m_J6_equals (Cx_l C) hX (d := d - 1) (by omega) s2 p1 (gBIG + 2 * 8) hs_p1 hs66 h) (by omega) (by decide) (Nat.le_of_ble_eq_true rfl) (fun s73 w68 hE69 hP70 => ?_) (fun s74 E71 q72 hE69 hP70 => ?_)
    rotate_left
    · exact False.elim hP70
    obtain ⟨r67, rfl, rfl, h⟩ := hP70
    refine X_tls ?_
    refine X_if_eq (tgt := 179) C dX0_isVerb_173 (by decide) (fun c75 => ?_) (fun c75 => ?_)
    · have h := h.1 c75
      refine X_sub [0] (lo2 := [(2, _)]) rfl ?_
      exact t_X0_isVerb_b179 hX hd C hn s2 (-1) h
    · have h := h.2 c75
      refine X_bipush (v := 6) C dX0_isVerb_176 rfl ?_
      refine X_istore_n C dX0_isVerb_178 rfl (lo2 := [(2, _), (1, _), (0, _)]) (by decide) rfl ?_
      refine X_sub [0] (lo2 := [(2, _)]) rfl ?_
      exact t_X0_isVerb_b179 hX hd C hn s2 6 h
  have h := h.2
  by_cases c88 : r1 = 106437344
  · have h := h.1 c88
    refine X_lookup (tgt := 91) C dX0_isVerb_8 (by decide) (off := 83) (by rw [c88]; rfl) (by decide) ?_
    refine X_aload_n C dX0_isVerb_91 rfl 1 rfl (isRV_r _) ?_
    refine X_ldcws (tx := "parts") (i := 3) C (by decide +kernel) dX0_isVerb_92 ?_
    refine X_con (fun hc77 => ?_)
    have hs78 : sh s2 (gBIG + 2 * 3) = 10 := con_str hc77 (by decide)
    refine X_callV (ci := 9) (q := (RJ6, TJ6, 4)) (As := [_]) (rest := []) C rfl hs_p1 q1227 q1228 q1229 q144 q1230 ⟨rfl, nm_J6_equals⟩ rfl dX0_isVerb_95 (m_J6_equals (Cx_l C) hX (d := d - 1) (by omega) s2 p1 (gBIG + 2 * 3) hs_p1 hs78 h) (by omega) (by decide) (Nat.le_of_ble_eq_true rfl) (fun s85 w80 hE81 hP82 => ?_) (fun s86 E83 q84 hE81 hP82 => ?_)
    rotate_left
    · exact False.elim hP82
    obtain ⟨r79, rfl, rfl, h⟩ := hP82
    refine X_tls ?_
    refine X_if_eq (tgt := 179) C dX0_isVerb_98 (by decide) (fun c87 => ?_) (fun c87 => ?_)
    · have h := h.1 c87
      refine X_sub [0] (lo2 := [(2, _)]) rfl ?_
      exact t_X0_isVerb_b179 hX hd C hn s2 (-1) h
    · have h := h.2 c87
      refine X_iconst (v := 1) C dX0_isVerb_101 rfl ?_
      refine X_istore_n C dX0_isVerb_102 rfl (lo2 := [(2, _), (1, _), (0, _)]) (by decide) rfl ?_
      refine X_goto (tgt := 179) C dX0_isVerb_103 (by decide) ?_
      refine X_sub [0] (lo2 := [(2, _)]) rfl ?_
      exact t_X0_isVerb_b179 hX hd C hn s2 1 h
  have h := h.2
  by_cases c100 : r1 = 106934986
  · have h := h.1 c100
    refine X_lookup (tgt := 136) C dX0_isVerb_8 (by decide) (off := 128) (by rw [c100]; rfl) (by decide) ?_
    refine X_aload_n C dX0_isVerb_136 rfl 1 rfl (isRV_r _) ?_
    refine X_ldcws (tx := "prior") (i := 6) C (by decide +kernel) dX0_isVerb_137 ?_
    refine X_con (fun hc89 => ?_)
    have hs90 : sh s2 (gBIG + 2 * 6) = 10 := con_str hc89 (by decide)
    refine X_callV (ci := 9) (q := (RJ6, TJ6, 4)) (As := [_]) (rest := []) C rfl hs_p1 q1227 q1228 q1229 q144 q1230 ⟨rfl, nm_J6_equals⟩ rfl dX0_isVerb_140 (m_J6_equals (Cx_l C) hX (d := d - 1) (by omega) s2 p1 (gBIG + 2 * 6) hs_p1 hs90 h) (by omega) (by decide) (Nat.le_of_ble_eq_true rfl) (fun s97 w92 hE93 hP94 => ?_) (fun s98 E95 q96 hE93 hP94 => ?_)
    rotate_left
    · exact False.elim hP94
    obtain ⟨r91, rfl, rfl, h⟩ := hP94
    refine X_tls ?_
    refine X_if_eq (tgt := 179) C dX0_isVerb_143 (by decide) (fun c99 => ?_) (fun c99 => ?_)
    · have h := h.1 c99
      refine X_sub [0] (lo2 := [(2, _)]) rfl ?_
      exact t_X0_isVerb_b179 hX hd C hn s2 (-1) h
    · have h := h.2 c99
      refine X_iconst (v := 4) C dX0_isVerb_146 rfl ?_
      refine X_istore_n C dX0_isVerb_147 rfl (lo2 := [(2, _), (1, _), (0, _)]) (by decide) rfl ?_
      refine X_goto (tgt := 179) C dX0_isVerb_148 (by decide) ?_
      refine X_sub [0] (lo2 := [(2, _)]) rfl ?_
      exact t_X0_isVerb_b179 hX hd C hn s2 4 h
  have h := h.2
  have h := h c28 c40 c52 c64 c76 c88 c100
  refine X_lookup (tgt := 179) C dX0_isVerb_8 (by decide) (off := 171) (lookup_d (fun q_ hq_ => ?_)) (by decide) ?_
  · simp only [List.mem_cons, List.not_mem_nil, or_false] at hq_
    rcases hq_ with rfl | rfl | rfl | rfl | rfl | rfl | rfl
    · have e_ := ne_toInt c28
      simp only [Int32.reduceToInt] at e_
      exact fun z_ => e_ z_.symm
    · have e_ := ne_toInt c40
      simp only [Int32.reduceToInt] at e_
      exact fun z_ => e_ z_.symm
    · have e_ := ne_toInt c52
      simp only [Int32.reduceToInt] at e_
      exact fun z_ => e_ z_.symm
    · have e_ := ne_toInt c64
      simp only [Int32.reduceToInt] at e_
      exact fun z_ => e_ z_.symm
    · have e_ := ne_toInt c76
      simp only [Int32.reduceToInt] at e_
      exact fun z_ => e_ z_.symm
    · have e_ := ne_toInt c88
      simp only [Int32.reduceToInt] at e_
      exact fun z_ => e_ z_.symm
    · have e_ := ne_toInt c100
      simp only [Int32.reduceToInt] at e_
      exact fun z_ => e_ z_.symm
  · refine X_sub [0] (lo2 := [(2, _)]) rfl ?_
    exact t_X0_isVerb_b179 hX hd C hn s2 (-1) h

theorem nm_X0_numberIn : yX0_numberIn.cls ≠ "java/lang/invoke/MethodHandle" ∧ yX0_numberIn.cls ≠ "java/lang/invoke/VarHandle" ∧ (parseMethodDescriptor yX0_numberIn.desc).map (fun d => d.parameters.length) = some 2 := by decide +kernel
def w_X0_numberIn_b29 (Φ : St → Int32 → Prop) (Φf : St → Nat → Prop) (st : St) (z0 : Int32) : Prop := w_X0_wants st z0 (fun (s3 : St) => ∀ v10 : Int32, v10 = (sI s3 0 37) → w_X0_next s3 (fun (s13 : St) => Φ s13 v10) Φf) Φf
theorem t_X0_numberIn_b29 {θ : Th} {κ : Kx} {Ph : Ph} (hX : LX θ) {d : Nat} (hd : 7 ≤ d) (C : Cx θ κ yX0_numberIn cX0_numberIn 4 (some Jvm.ClassFile.FieldType.int) [] d) {Φ : St → Int32 → Prop} {Φf : St → Nat → Prop} (hn : ∀ st r, Φ st r → Ph.1 st (some (.int r))) (hf : ∀ st a, a < gBIG → sh st a = 7 → Φf st a → Ph.2 st "SecretsWorth$Fault" (ad θ a)) (st : St) (z0 : Int32) (h : w_X0_numberIn_b29 Φ Φf st z0) : X θ κ Ph st 29 [(0, .ref (ad θ 0))] [.int z0, .ref (ad θ 0)] := by
  unfold w_X0_numberIn_b29 at h
  refine X_callVS (ci := 0) (q := (RX0, TX0, 49)) (As := [_]) (rest := []) C rfl (LX_S hX (k := 0) rfl) q1144 q1146 qs42 q132 q1147 ⟨rfl, nm_X0_wants⟩ rfl dX0_numberIn_29 (m_X0_wants (Cx_l C) hX (d := d - 1) (by omega) st z0 h) (by omega) (by decide) (Nat.le_of_ble_eq_true rfl) (fun s3 w4 hE5 hP6 => ?_) (fun s9 E7 q8 hE5 hP6 => ?_)
  rotate_left
  · rcases hP6 with ⟨rfl, a_, rfl, hb_, hs_, h⟩
    exact XT_out C rfl (hf s9 a_ hb_ hs_ h)
  obtain ⟨rfl, h⟩ := hP6
  refine X_tln ?_
  refine X_aload_n C dX0_numberIn_32 rfl 0 rfl (isRV_r _) ?_
  refine X_getS (ci := 0) (j := 37) (q := (RX0, TX0, 49)) C rfl (by decide) q297 rfl dX0_numberIn_33 (LX_S hX (k := 0) rfl) (v := .int (sI s3 0 37)) rfl ?_
  refine X_topi (fun v10 e11 => ?_)
  have h := h v10 e11
  refine X_istore_n C dX0_numberIn_36 rfl (lo2 := [(3, _), (0, _)]) (by decide) rfl ?_
  refine X_aload_n C dX0_numberIn_37 rfl 1 rfl (isRV_r _) ?_
  refine X_callVS (ci := 0) (q := (RX0, TX0, 49)) (As := []) (rest := []) C rfl (LX_S hX (k := 0) rfl) q950 q952 qs39 q132 q953 ⟨rfl, nm_X0_next⟩ rfl dX0_numberIn_38 (m_X0_next (Cx_l C) hX (d := d - 1) (by omega) s3 h) (by omega) (by decide) (Nat.le_of_ble_eq_true rfl) (fun s13 w14 hE15 hP16 => ?_) (fun s19 E17 q18 hE15 hP16 => ?_)
  rotate_left
  · rcases hP16 with ⟨rfl, a_, rfl, hb_, hs_, h⟩
    exact XT_out C rfl (hf s19 a_ hb_ hs_ h)
  obtain ⟨rfl, h⟩ := hP16
  refine X_tln ?_
  refine X_iload_n C dX0_numberIn_41 rfl 0 rfl ?_
  exact X_iret C rfl dX0_numberIn_42 (hn s13 _ h)
def w_X0_numberIn_b28 (Φ : St → Int32 → Prop) (Φf : St → Nat → Prop) (st : St) : Prop := w_X0_numberIn_b29 Φ Φf st 0
theorem t_X0_numberIn_b28 {θ : Th} {κ : Kx} {Ph : Ph} (hX : LX θ) {d : Nat} (hd : 7 ≤ d) (C : Cx θ κ yX0_numberIn cX0_numberIn 4 (some Jvm.ClassFile.FieldType.int) [] d) {Φ : St → Int32 → Prop} {Φf : St → Nat → Prop} (hn : ∀ st r, Φ st r → Ph.1 st (some (.int r))) (hf : ∀ st a, a < gBIG → sh st a = 7 → Φf st a → Ph.2 st "SecretsWorth$Fault" (ad θ a)) (st : St) (h : w_X0_numberIn_b28 Φ Φf st) : X θ κ Ph st 28 [(0, .ref (ad θ 0))] [.ref (ad θ 0)] := by
  unfold w_X0_numberIn_b28 at h
  refine X_iconst (v := 0) C dX0_numberIn_28 rfl ?_
  exact t_X0_numberIn_b29 hX hd C hn hf st 0 h
def w_X0_numberIn (st : St) (p1 : Int32) (p2 : Int32) (Φ : St → Int32 → Prop) (Φf : St → Nat → Prop) : Prop := (((sI st 0 37) = (-1)) → w_X0_numberIn_b28 Φ Φf st) ∧ ((¬ (sI st 0 37) = (-1)) → w_X0_in (sI st 0 37).toInt64 p1.toInt64 p2.toInt64 (fun (r20 : Int32) => ((r20 = 0) → w_X0_numberIn_b28 Φ Φf st) ∧ ((¬ r20 = 0) → w_X0_numberIn_b29 Φ Φf st 1)))
theorem e_X0_numberIn : plainFor yX0_numberIn = true := plainFor_of_name (by decide +kernel)
theorem m_X0_numberIn {θ : Th} {l : Launch} (hl0 : l.stackTraces = false) (hX : LX θ) {d : Nat} (hd : 7 ≤ d) (st : St) (p1 : Int32) (p2 : Int32) {Φ : St → Int32 → Prop} {Φf : St → Nat → Prop} (h : w_X0_numberIn st p1 p2 Φ Φf) : Ct θ l yX0_numberIn (ws_ yX0_numberIn cX0_numberIn 4 (some Jvm.ClassFile.FieldType.int)) d [.ref (ad θ 0), .int p1, .int p2] st (pI Φ, (exF θ Φf)) := by
  refine Ct_entry hl0 e_X0_numberIn (Nat.le_of_ble_eq_true rfl) (fun κ hκ _ C => ?_)
  have hn : ∀ st r, Φ st r → ((pI Φ, (exF θ Φf)) : Ph).1 st (some (.int r)) := fun st r q => ⟨r, rfl, q⟩
  have hf : ∀ st a, a < gBIG → sh st a = 7 → Φf st a → ((pI Φ, (exF θ Φf)) : Ph).2 st "SecretsWorth$Fault" (ad θ a) := fun st a q1 q2 q => ⟨rfl, a, rfl, q1, q2, q⟩
  change X _ _ _ _ _ [(0, .ref (ad θ 0)), (1, .int p1), (2, .int p2)] _
  unfold w_X0_numberIn at h
  refine X_aload_n C dX0_numberIn_0 rfl 0 rfl (isRV_r _) ?_
  refine X_aload_n C dX0_numberIn_1 rfl 0 rfl (isRV_r _) ?_
  refine X_getS (ci := 0) (j := 37) (q := (RX0, TX0, 49)) C rfl (by decide) q297 rfl dX0_numberIn_2 (LX_S hX (k := 0) rfl) (v := .int (sI st 0 37)) rfl ?_
  refine X_iconst (v := (-1)) C dX0_numberIn_5 rfl ?_
  refine X_icmp_eq (tgt := 28) C dX0_numberIn_6 (by decide) (fun c1 => ?_) (fun c1 => ?_)
  · have h := h.1 c1
    refine X_sub [0] (lo2 := [(0, _)]) rfl ?_
    exact t_X0_numberIn_b28 hX hd C hn hf st h
  · have h := h.2 c1
    refine X_aload_n C dX0_numberIn_9 rfl 0 rfl (isRV_r _) ?_
    refine X_getS (ci := 0) (j := 37) (q := (RX0, TX0, 49)) C rfl (by decide) q297 rfl dX0_numberIn_10 (LX_S hX (k := 0) rfl) (v := .int (sI st 0 37)) rfl ?_
    refine X_i2l C dX0_numberIn_13 ?_
    refine X_iload_n C dX0_numberIn_14 rfl 1 rfl ?_
    refine X_i2l C dX0_numberIn_15 ?_
    refine X_iload_n C dX0_numberIn_16 rfl 2 rfl ?_
    refine X_i2l C dX0_numberIn_17 ?_
    refine X_callS (As := [_, _, _]) (rest := [_]) C q415 q416 q132 q417 nm_X0_in rfl dX0_numberIn_18 (m_X0_in (Cx_l C) (d := d - 1) (by omega) st (sI st 0 37).toInt64 p1.toInt64 p2.toInt64 h) (by omega) (by decide) (Nat.le_of_ble_eq_true rfl) (fun s26 w21 hE22 hP23 => ?_) (fun s27 E24 q25 hE22 hP23 => ?_)
    rotate_left
    · exact False.elim hP23
    obtain ⟨r20, rfl, rfl, h⟩ := hP23
    refine X_tls ?_
    refine X_if_eq (tgt := 28) C dX0_numberIn_21 (by decide) (fun c28 => ?_) (fun c28 => ?_)
    · have h := h.1 c28
      refine X_sub [0] (lo2 := [(0, _)]) rfl ?_
      exact t_X0_numberIn_b28 hX hd C hn hf st h
    · have h := h.2 c28
      refine X_iconst (v := 1) C dX0_numberIn_24 rfl ?_
      refine X_goto (tgt := 29) C dX0_numberIn_25 (by decide) ?_
      refine X_sub [0] (lo2 := [(0, _)]) rfl ?_
      exact t_X0_numberIn_b29 hX hd C hn hf st 1 h

theorem nm_X0_signed : yX0_signed.cls ≠ "java/lang/invoke/MethodHandle" ∧ yX0_signed.cls ≠ "java/lang/invoke/VarHandle" ∧ (parseMethodDescriptor yX0_signed.desc).map (fun d => d.parameters.length) = some 1 := by decide +kernel
def w_X0_signed_b23 (Φ : St → Int32 → Prop) (Φf : St → Nat → Prop) (st : St) (x1 : Int32) (x2 : Int32) : Prop := w_X0_numberIn st 0 x1 (fun (s4 : St) (r3 : Int32) => ((x2 = 0) → Φ s4 r3) ∧ ((¬ x2 = 0) → Φ s4 (-r3))) Φf
theorem t_X0_signed_b23 {θ : Th} {κ : Kx} {Ph : Ph} (hX : LX θ) {d : Nat} (hd : 8 ≤ d) (C : Cx θ κ yX0_signed cX0_signed 4 (some Jvm.ClassFile.FieldType.int) [] d) {Φ : St → Int32 → Prop} {Φf : St → Nat → Prop} (hn : ∀ st r, Φ st r → Ph.1 st (some (.int r))) (hf : ∀ st a, a < gBIG → sh st a = 7 → Φf st a → Ph.2 st "SecretsWorth$Fault" (ad θ a)) (st : St) (x1 : Int32) (x2 : Int32) (h : w_X0_signed_b23 Φ Φf st x1 x2) : X θ κ Ph st 23 [(0, .ref (ad θ 0)), (1, .int x1), (2, .int x2)] [] := by
  unfold w_X0_signed_b23 at h
  refine X_aload_n C dX0_signed_23 rfl 0 rfl (isRV_r _) ?_
  refine X_iconst (v := 0) C dX0_signed_24 rfl ?_
  refine X_iload_n C dX0_signed_25 rfl 1 rfl ?_
  refine X_callVS (ci := 0) (q := (RX0, TX0, 49)) (As := [_, _]) (rest := []) C rfl (LX_S hX (k := 0) rfl) q1241 q1243 qs44 q132 q1244 ⟨rfl, nm_X0_numberIn⟩ rfl dX0_signed_26 (m_X0_numberIn (Cx_l C) hX (d := d - 1) (by omega) st 0 x1 h) (by omega) (by decide) (Nat.le_of_ble_eq_true rfl) (fun s4 w5 hE6 hP7 => ?_) (fun s10 E8 q9 hE6 hP7 => ?_)
  rotate_left
  · rcases hP7 with ⟨rfl, a_, rfl, hb_, hs_, h⟩
    exact XT_out C rfl (hf s10 a_ hb_ hs_ h)
  obtain ⟨r3, rfl, h⟩ := hP7
  refine X_tls ?_
  refine X_istore_n C dX0_signed_29 rfl (lo2 := [(3, _), (0, _), (1, _), (2, _)]) (by decide) rfl ?_
  refine X_iload_n C dX0_signed_30 rfl 3 rfl ?_
  refine X_if_eq (tgt := 39) C dX0_signed_31 (by decide) (fun c11 => ?_) (fun c11 => ?_)
  · have h := h.1 c11
    refine X_iload_n C dX0_signed_39 rfl 0 rfl ?_
    exact X_iret C rfl dX0_signed_40 (hn s4 _ h)
  · have h := h.2 c11
    refine X_iload_n C dX0_signed_34 rfl 0 rfl ?_
    refine X_ineg C dX0_signed_35 ?_
    refine X_goto (tgt := 40) C dX0_signed_36 (by decide) ?_
    exact X_iret C rfl dX0_signed_40 (hn s4 _ h)
def w_X0_signed_b14 (Φ : St → Int32 → Prop) (Φf : St → Nat → Prop) (st : St) (x1 : Int32) (z0 : Int32) : Prop := ((z0 = 0) → w_X0_signed_b23 Φ Φf st x1 z0) ∧ ((¬ z0 = 0) → w_X0_next st (fun (s13 : St) => w_X0_signed_b23 Φ Φf s13 x1 z0) Φf)
theorem t_X0_signed_b14 {θ : Th} {κ : Kx} {Ph : Ph} (hX : LX θ) {d : Nat} (hd : 8 ≤ d) (C : Cx θ κ yX0_signed cX0_signed 4 (some Jvm.ClassFile.FieldType.int) [] d) {Φ : St → Int32 → Prop} {Φf : St → Nat → Prop} (hn : ∀ st r, Φ st r → Ph.1 st (some (.int r))) (hf : ∀ st a, a < gBIG → sh st a = 7 → Φf st a → Ph.2 st "SecretsWorth$Fault" (ad θ a)) (st : St) (x1 : Int32) (z0 : Int32) (h : w_X0_signed_b14 Φ Φf st x1 z0) : X θ κ Ph st 14 [(0, .ref (ad θ 0)), (1, .int x1)] [.int z0] := by
  unfold w_X0_signed_b14 at h
  refine X_istore_n C dX0_signed_14 rfl (lo2 := [(2, _), (0, _), (1, _)]) (by decide) rfl ?_
  refine X_iload_n C dX0_signed_15 rfl 0 rfl ?_
  refine X_if_eq (tgt := 23) C dX0_signed_16 (by decide) (fun c2 => ?_) (fun c2 => ?_)
  · have h := h.1 c2
    refine X_sub [1, 2, 0] (lo2 := [(0, _), (1, _), (2, _)]) rfl ?_
    exact t_X0_signed_b23 hX hd C hn hf st x1 z0 h
  · have h := h.2 c2
    refine X_aload_n C dX0_signed_19 rfl 1 rfl (isRV_r _) ?_
    refine X_callVS (ci := 0) (q := (RX0, TX0, 49)) (As := []) (rest := []) C rfl (LX_S hX (k := 0) rfl) q950 q952 qs39 q132 q953 ⟨rfl, nm_X0_next⟩ rfl dX0_signed_20 (m_X0_next (Cx_l C) hX (d := d - 1) (by omega) st h) (by omega) (by decide) (Nat.le_of_ble_eq_true rfl) (fun s13 w14 hE15 hP16 => ?_) (fun s19 E17 q18 hE15 hP16 => ?_)
    rotate_left
    · rcases hP16 with ⟨rfl, a_, rfl, hb_, hs_, h⟩
      exact XT_out C rfl (hf s19 a_ hb_ hs_ h)
    obtain ⟨rfl, h⟩ := hP16
    refine X_tln ?_
    refine X_sub [1, 2, 0] (lo2 := [(0, _), (1, _), (2, _)]) rfl ?_
    exact t_X0_signed_b23 hX hd C hn hf s13 x1 z0 h
def w_X0_signed (st : St) (p1 : Int32) (Φ : St → Int32 → Prop) (Φf : St → Nat → Prop) : Prop := (((sI st 0 38) ≠ 45) → w_X0_signed_b14 Φ Φf st p1 0) ∧ (((sI st 0 38) = 45) → w_X0_signed_b14 Φ Φf st p1 1)
theorem e_X0_signed : plainFor yX0_signed = true := plainFor_of_name (by decide +kernel)
theorem m_X0_signed {θ : Th} {l : Launch} (hl0 : l.stackTraces = false) (hX : LX θ) {d : Nat} (hd : 8 ≤ d) (st : St) (p1 : Int32) {Φ : St → Int32 → Prop} {Φf : St → Nat → Prop} (h : w_X0_signed st p1 Φ Φf) : Ct θ l yX0_signed (ws_ yX0_signed cX0_signed 4 (some Jvm.ClassFile.FieldType.int)) d [.ref (ad θ 0), .int p1] st (pI Φ, (exF θ Φf)) := by
  refine Ct_entry hl0 e_X0_signed (Nat.le_of_ble_eq_true rfl) (fun κ hκ _ C => ?_)
  have hn : ∀ st r, Φ st r → ((pI Φ, (exF θ Φf)) : Ph).1 st (some (.int r)) := fun st r q => ⟨r, rfl, q⟩
  have hf : ∀ st a, a < gBIG → sh st a = 7 → Φf st a → ((pI Φ, (exF θ Φf)) : Ph).2 st "SecretsWorth$Fault" (ad θ a) := fun st a q1 q2 q => ⟨rfl, a, rfl, q1, q2, q⟩
  change X _ _ _ _ _ [(0, .ref (ad θ 0)), (1, .int p1)] _
  unfold w_X0_signed at h
  refine X_aload_n C dX0_signed_0 rfl 0 rfl (isRV_r _) ?_
  refine X_getS (ci := 0) (j := 38) (q := (RX0, TX0, 49)) C rfl (by decide) q298 rfl dX0_signed_1 (LX_S hX (k := 0) rfl) (v := .int (sI st 0 38)) rfl ?_
  refine X_bipush (v := 45) C dX0_signed_4 rfl ?_
  refine X_icmp_ne (tgt := 13) C dX0_signed_6 (by decide) (fun c1 => ?_) (fun c1 => ?_)
  · have h := h.1 c1
    refine X_iconst (v := 0) C dX0_signed_13 rfl ?_
    exact t_X0_signed_b14 hX hd C hn hf st p1 0 h
  · have h := h.2 c1
    refine X_iconst (v := 1) C dX0_signed_9 rfl ?_
    refine X_goto (tgt := 14) C dX0_signed_10 (by decide) ?_
    exact t_X0_signed_b14 hX hd C hn hf st p1 1 h

theorem nm_X0_readsGame : yX0_readsGame.cls ≠ "java/lang/invoke/MethodHandle" ∧ yX0_readsGame.cls ≠ "java/lang/invoke/VarHandle" ∧ (parseMethodDescriptor yX0_readsGame.desc).map (fun d => d.parameters.length) = some 0 := by decide +kernel
def w_X0_readsGame_l30 (Φ : St → Prop) (Φf : St → Nat → Prop) (E66 : St → Int32 → Int32 → Prop) : Nat → St → Int32 → Int32 → Int32 → Prop
  | 0, _, _, _, _ => False
  | n + 1, st, x1, x2, x3 => (((sI st 64 3) ≤ x3) → E66 st x1 x2) ∧ ((¬ (sI st 64 3) ≤ x3) → vp_in x1 3 ∧ vp_in x2 3 ∧ w_X0_signed st 20 (fun (s14 : St) (r13 : Int32) => vp_in x3 3 ∧ ∀ s22, s22 = putI s14 (64 + (3 + 4 * x1.toNatClampNeg + x2.toNatClampNeg)) (x3.toNatClampNeg) r13 → w_X0_readsGame_l30 Φ Φf E66 n s22 x1 x2 (x3 + 1)) Φf)
theorem t_X0_readsGame_l30 {θ : Th} {κ : Kx} {Ph : Ph} (hX : LX θ) {d : Nat} (hd : 9 ≤ d) (C : Cx θ κ yX0_readsGame cX0_readsGame 4 (none : Option Jvm.ClassFile.FieldType) [] d) {Φ : St → Prop} {Φf : St → Nat → Prop} (hn : ∀ st, Φ st → Ph.1 st none) (hf : ∀ st a, a < gBIG → sh st a = 7 → Φf st a → Ph.2 st "SecretsWorth$Fault" (ad θ a)) {E66 : St → Int32 → Int32 → Prop} (hE66 : ∀ (st : St) (x1 : Int32) (x2 : Int32), E66 st x1 x2 → X θ κ Ph st 66 [(0, .ref (ad θ 0)), (1, .int x1), (2, .int x2)] []) : ∀ (n : Nat) (st : St) (x1 : Int32) (x2 : Int32) (x3 : Int32), w_X0_readsGame_l30 Φ Φf E66 n st x1 x2 x3 → X θ κ Ph st 30 [(0, .ref (ad θ 0)), (1, .int x1), (2, .int x2), (3, .int x3)] [] := by
  intro n
  induction n with
  | zero => intro st x1 x2 x3 h; exact h.elim
  | succ n hK30 =>
    intro st x1 x2 x3 h
    rw [w_X0_readsGame_l30] at h
    refine X_iload_n C dX0_readsGame_30 rfl 3 rfl ?_
    refine X_aload_n C dX0_readsGame_31 rfl 0 rfl (isRV_r _) ?_
    refine X_getF (ci := 0) (j := 3) (q := (RX0, TX0, 49)) C rfl (by decide) q263 rfl dX0_readsGame_32 (b := 64) (LX_S hX (k := 0) rfl) (LX_F hX (k := 0) (j := 3) rfl) rfl ?_
    refine X_getNS (ci := 1) (j := 3) (q := (RX1, TX1, 10)) C rfl (by decide) q195 rfl dX0_readsGame_35 (LH_0 (LX_H64 hX)) (v := .int (sI st 64 3)) rfl ?_
    refine X_icmp_ge (tgt := 66) C dX0_readsGame_38 (by decide) (fun c10 => ?_) (fun c10 => ?_)
    · have h := h.1 c10
      refine X_sub [0, 1, 2] (lo2 := [(0, _), (1, _), (2, _)]) rfl ?_
      exact hE66 st x1 x2 h
    · have h := h.2 c10
      refine X_aload_n C dX0_readsGame_41 rfl 0 rfl (isRV_r _) ?_
      refine X_getF (ci := 0) (j := 3) (q := (RX0, TX0, 49)) C rfl (by decide) q263 rfl dX0_readsGame_42 (b := 64) (LX_S hX (k := 0) rfl) (LX_F hX (k := 0) (j := 3) rfl) rfl ?_
      refine X_getNF (ci := 1) (j := 5) (q := (RX1, TX1, 10)) C rfl (by decide) q199 rfl dX0_readsGame_45 (b := (64 + 1)) (LH_0 (LX_H64 hX)) (LH_F (LX_H64 hX) (k := 0) (j := 5) rfl) rfl ?_
      refine X_iload_n C dX0_readsGame_48 rfl 1 rfl ?_
      have g11 := h.1
      have h := h.2
      refine X_aaldF C 7 rfl (LH_S (LX_H64 hX) (k := 1) rfl) (by decide) rfl (LH_L (LX_H64 hX) (k := 1) rfl) g11 rfl (b := (64 + (2 + 4 * x1.toNatClampNeg))) (LHf_sub (LX_H64 hX) (i := x1.toNatClampNeg) (in_lt g11)).2.2 dX0_readsGame_49 rfl ?_
      refine X_iload_n C dX0_readsGame_50 rfl 2 rfl ?_
      have g12 := h.1
      have h := h.2
      refine X_aaldF C 6 rfl (LHf_sub (LX_H64 hX) (i := x1.toNatClampNeg) (in_lt g11)).1 (by decide) rfl (LHf_sub (LX_H64 hX) (i := x1.toNatClampNeg) (in_lt g11)).2.1 g12 rfl (b := (64 + (3 + 4 * x1.toNatClampNeg + x2.toNatClampNeg))) (LHf_game (LX_H64 hX) (i := x1.toNatClampNeg) (j := x2.toNatClampNeg) (in_lt g11) (in_lt g12)).2.2 dX0_readsGame_51 rfl ?_
      refine X_iload_n C dX0_readsGame_52 rfl 3 rfl ?_
      refine X_aload_n C dX0_readsGame_53 rfl 0 rfl (isRV_r _) ?_
      refine X_bipush (v := 20) C dX0_readsGame_54 rfl ?_
      refine X_callVS (ci := 0) (q := (RX0, TX0, 49)) (As := [_]) (rest := [_, _]) C rfl (LX_S hX (k := 0) rfl) q1249 q1251 qs46 q132 q1252 ⟨rfl, nm_X0_signed⟩ rfl dX0_readsGame_56 (m_X0_signed (Cx_l C) hX (d := d - 1) (by omega) st 20 h) (by omega) (by decide) (Nat.le_of_ble_eq_true rfl) (fun s14 w15 hE16 hP17 => ?_) (fun s20 E18 q19 hE16 hP17 => ?_)
      rotate_left
      · rcases hP17 with ⟨rfl, a_, rfl, hb_, hs_, h⟩
        exact XT_out C rfl (hf s20 a_ hb_ hs_ h)
      obtain ⟨r13, rfl, h⟩ := hP17
      refine X_tls ?_
      have g21 := h.1
      have h := h.2
      refine X_iastS C (LHf_game (LX_H64 hX) (i := x1.toNatClampNeg) (j := x2.toNatClampNeg) (in_lt g11) (in_lt g12)).1 (LHf_game (LX_H64 hX) (i := x1.toNatClampNeg) (j := x2.toNatClampNeg) (in_lt g11) (in_lt g12)).2.1 g21 rfl dX0_readsGame_59 ?_
      refine X_nm (fun s22 e23 => ?_)
      have h := h s22 e23
      refine X_iinc (v := (x3 + 1)) C (j := 3) dX0_readsGame_60 rfl rfl (lo2 := [(3, _), (0, _), (1, _), (2, _)]) (by decide) rfl ?_
      refine X_goto (tgt := 30) C dX0_readsGame_63 (by decide) ?_
      refine X_sub [1, 2, 3, 0] (lo2 := [(0, _), (1, _), (2, _), (3, _)]) rfl ?_
      exact hK30 s22 x1 x2 (x3 + 1) h
def w_X0_readsGame_b66 (Φ : St → Prop) (Φf : St → Nat → Prop) (K17 : St → Int32 → Int32 → Prop) (st : St) (x1 : Int32) (x2 : Int32) : Prop := K17 st x1 (x2 + 1)
theorem t_X0_readsGame_b66 {θ : Th} {κ : Kx} {Ph : Ph} (hX : LX θ) {d : Nat} (hd : 9 ≤ d) (C : Cx θ κ yX0_readsGame cX0_readsGame 4 (none : Option Jvm.ClassFile.FieldType) [] d) {Φ : St → Prop} {Φf : St → Nat → Prop} (hn : ∀ st, Φ st → Ph.1 st none) (hf : ∀ st a, a < gBIG → sh st a = 7 → Φf st a → Ph.2 st "SecretsWorth$Fault" (ad θ a)) {K17 : St → Int32 → Int32 → Prop} (hK17 : ∀ (st : St) (x1 : Int32) (x2 : Int32), K17 st x1 x2 → X θ κ Ph st 17 [(0, .ref (ad θ 0)), (1, .int x1), (2, .int x2)] []) (st : St) (x1 : Int32) (x2 : Int32) (h : w_X0_readsGame_b66 Φ Φf K17 st x1 x2) : X θ κ Ph st 66 [(0, .ref (ad θ 0)), (1, .int x1), (2, .int x2)] [] := by
  unfold w_X0_readsGame_b66 at h
  refine X_iinc (v := (x2 + 1)) C (j := 2) dX0_readsGame_66 rfl rfl (lo2 := [(2, _), (0, _), (1, _)]) (by decide) rfl ?_
  refine X_goto (tgt := 17) C dX0_readsGame_69 (by decide) ?_
  refine X_sub [1, 2, 0] (lo2 := [(0, _), (1, _), (2, _)]) rfl ?_
  exact hK17 st x1 (x2 + 1) h
def w_X0_readsGame_l17 (Φ : St → Prop) (Φf : St → Nat → Prop) (E72 : St → Prop) : Nat → St → Int32 → Int32 → Prop
  | 0, _, _, _ => False
  | n + 1, st, x1, x2 => (((sI st 64 2) ≤ x2) → E72 st) ∧ ((¬ (sI st 64 2) ≤ x2) → w_X0_readsGame_l30 Φ Φf (fun (s24 : St) (x1 : Int32) (x2 : Int32) => w_X0_readsGame_b66 Φ Φf (w_X0_readsGame_l17 Φ Φf E72 n) s24 x1 x2) gFU st x1 x2 0)
theorem t_X0_readsGame_l17 {θ : Th} {κ : Kx} {Ph : Ph} (hX : LX θ) {d : Nat} (hd : 9 ≤ d) (C : Cx θ κ yX0_readsGame cX0_readsGame 4 (none : Option Jvm.ClassFile.FieldType) [] d) {Φ : St → Prop} {Φf : St → Nat → Prop} (hn : ∀ st, Φ st → Ph.1 st none) (hf : ∀ st a, a < gBIG → sh st a = 7 → Φf st a → Ph.2 st "SecretsWorth$Fault" (ad θ a)) {E72 : St → Prop} (hE72 : ∀ (st : St), E72 st → X θ κ Ph st 72 [] []) : ∀ (n : Nat) (st : St) (x1 : Int32) (x2 : Int32), w_X0_readsGame_l17 Φ Φf E72 n st x1 x2 → X θ κ Ph st 17 [(0, .ref (ad θ 0)), (1, .int x1), (2, .int x2)] [] := by
  intro n
  induction n with
  | zero => intro st x1 x2 h; exact h.elim
  | succ n hK17 =>
    intro st x1 x2 h
    rw [w_X0_readsGame_l17] at h
    refine X_iload_n C dX0_readsGame_17 rfl 2 rfl ?_
    refine X_aload_n C dX0_readsGame_18 rfl 0 rfl (isRV_r _) ?_
    refine X_getF (ci := 0) (j := 3) (q := (RX0, TX0, 49)) C rfl (by decide) q263 rfl dX0_readsGame_19 (b := 64) (LX_S hX (k := 0) rfl) (LX_F hX (k := 0) (j := 3) rfl) rfl ?_
    refine X_getNS (ci := 1) (j := 2) (q := (RX1, TX1, 10)) C rfl (by decide) q193 rfl dX0_readsGame_22 (LH_0 (LX_H64 hX)) (v := .int (sI st 64 2)) rfl ?_
    refine X_icmp_ge (tgt := 72) C dX0_readsGame_25 (by decide) (fun c9 => ?_) (fun c9 => ?_)
    · have h := h.1 c9
      refine X_sub [] (lo2 := []) rfl ?_
      exact hE72 st h
    · have h := h.2 c9
      refine X_iconst (v := 0) C dX0_readsGame_28 rfl ?_
      refine X_istore_n C dX0_readsGame_29 rfl (lo2 := [(3, _), (0, _), (1, _), (2, _)]) (by decide) rfl ?_
      refine X_sub [1, 2, 3, 0] (lo2 := [(0, _), (1, _), (2, _), (3, _)]) rfl ?_
      refine t_X0_readsGame_l30 hX hd C hn hf ?_ gFU st x1 x2 0 h
      · intro s24 x1 x2 h
        exact t_X0_readsGame_b66 hX hd C hn hf hK17 s24 x1 x2 h
def w_X0_readsGame_b72 (Φ : St → Prop) (Φf : St → Nat → Prop) (st : St) : Prop := Φ st
theorem t_X0_readsGame_b72 {θ : Th} {κ : Kx} {Ph : Ph} (hX : LX θ) {d : Nat} (hd : 9 ≤ d) (C : Cx θ κ yX0_readsGame cX0_readsGame 4 (none : Option Jvm.ClassFile.FieldType) [] d) {Φ : St → Prop} {Φf : St → Nat → Prop} (hn : ∀ st, Φ st → Ph.1 st none) (hf : ∀ st a, a < gBIG → sh st a = 7 → Φf st a → Ph.2 st "SecretsWorth$Fault" (ad θ a)) (st : St) (h : w_X0_readsGame_b72 Φ Φf st) : X θ κ Ph st 72 [] [] := by
  unfold w_X0_readsGame_b72 at h
  exact X_vret C rfl dX0_readsGame_72 (hn st h)
def w_X0_readsGame (st : St) (Φ : St → Prop) (Φf : St → Nat → Prop) : Prop := w_X0_numberIn st 0 ((sI st 64 0) - 1) (fun (s2 : St) (r1 : Int32) => w_X0_readsGame_l17 Φ Φf (fun (s25 : St) => w_X0_readsGame_b72 Φ Φf s25) gFU s2 r1 0) Φf
theorem e_X0_readsGame : plainFor yX0_readsGame = true := plainFor_of_name (by decide +kernel)
theorem m_X0_readsGame {θ : Th} {l : Launch} (hl0 : l.stackTraces = false) (hX : LX θ) {d : Nat} (hd : 9 ≤ d) (st : St) {Φ : St → Prop} {Φf : St → Nat → Prop} (h : w_X0_readsGame st Φ Φf) : Ct θ l yX0_readsGame (ws_ yX0_readsGame cX0_readsGame 4 (none : Option Jvm.ClassFile.FieldType)) d [.ref (ad θ 0)] st (pV Φ, (exF θ Φf)) := by
  refine Ct_entry hl0 e_X0_readsGame (Nat.le_of_ble_eq_true rfl) (fun κ hκ _ C => ?_)
  have hn : ∀ st, Φ st → ((pV Φ, (exF θ Φf)) : Ph).1 st none := fun st q => ⟨rfl, q⟩
  have hf : ∀ st a, a < gBIG → sh st a = 7 → Φf st a → ((pV Φ, (exF θ Φf)) : Ph).2 st "SecretsWorth$Fault" (ad θ a) := fun st a q1 q2 q => ⟨rfl, a, rfl, q1, q2, q⟩
  change X _ _ _ _ _ [(0, .ref (ad θ 0))] _
  unfold w_X0_readsGame at h
  refine X_aload_n C dX0_readsGame_0 rfl 0 rfl (isRV_r _) ?_
  refine X_iconst (v := 0) C dX0_readsGame_1 rfl ?_
  refine X_aload_n C dX0_readsGame_2 rfl 0 rfl (isRV_r _) ?_
  refine X_getF (ci := 0) (j := 3) (q := (RX0, TX0, 49)) C rfl (by decide) q263 rfl dX0_readsGame_3 (b := 64) (LX_S hX (k := 0) rfl) (LX_F hX (k := 0) (j := 3) rfl) rfl ?_
  refine X_getNS (ci := 1) (j := 0) (q := (RX1, TX1, 10)) C rfl (by decide) q189 rfl dX0_readsGame_6 (LH_0 (LX_H64 hX)) (v := .int (sI st 64 0)) rfl ?_
  refine X_iconst (v := 1) C dX0_readsGame_9 rfl ?_
  refine X_isub C dX0_readsGame_10 ?_
  refine X_callVS (ci := 0) (q := (RX0, TX0, 49)) (As := [_, _]) (rest := []) C rfl (LX_S hX (k := 0) rfl) q1241 q1243 qs44 q132 q1244 ⟨rfl, nm_X0_numberIn⟩ rfl dX0_readsGame_11 (m_X0_numberIn (Cx_l C) hX (d := d - 1) (by omega) st 0 ((sI st 64 0) - 1) h) (by omega) (by decide) (Nat.le_of_ble_eq_true rfl) (fun s2 w3 hE4 hP5 => ?_) (fun s8 E6 q7 hE4 hP5 => ?_)
  rotate_left
  · rcases hP5 with ⟨rfl, a_, rfl, hb_, hs_, h⟩
    exact XT_out C rfl (hf s8 a_ hb_ hs_ h)
  obtain ⟨r1, rfl, h⟩ := hP5
  refine X_tls ?_
  refine X_istore_n C dX0_readsGame_14 rfl (lo2 := [(1, _), (0, _)]) (by decide) rfl ?_
  refine X_iconst (v := 0) C dX0_readsGame_15 rfl ?_
  refine X_istore_n C dX0_readsGame_16 rfl (lo2 := [(2, _), (1, _), (0, _)]) (by decide) rfl ?_
  refine X_sub [2, 1, 0] (lo2 := [(0, _), (1, _), (2, _)]) rfl ?_
  refine t_X0_readsGame_l17 hX hd C hn hf ?_ gFU s2 r1 0 h
  · intro s25 h
    exact t_X0_readsGame_b72 hX hd C hn hf s25 h

theorem nm_X0_splitsBy : yX0_splitsBy.cls ≠ "java/lang/invoke/MethodHandle" ∧ yX0_splitsBy.cls ≠ "java/lang/invoke/VarHandle" ∧ (parseMethodDescriptor yX0_splitsBy.desc).map (fun d => d.parameters.length) = some 2 := by decide +kernel
def w_X0_splitsBy_l151 (p1 : Nat) (Φ : St → Int32 → Prop) (Φa : St → Prop) (E183 : St → Int32 → Prop) : Nat → St → Nat → Int32 → Int32 → Prop
  | 0, _, _, _, _ => False
  | n + 1, st, x2, x5, x6 => (((sI st x2 3) ≤ x6) → E183 st x5) ∧ ((¬ (sI st x2 3) ≤ x6) → ((x5 = 0) → E183 st x5) ∧ ((¬ x5 = 0) → vp_in x6 3 ∧ w_X2_isAbove st (164 + 2 * x6.toNatClampNeg) (fun (r38 : Int32) => w_X0_splitsBy_l151 p1 Φ Φa E183 n st x2 r38 (x6 + 1))))
theorem t_X0_splitsBy_l151 {θ : Th} {κ : Kx} {Ph : Ph} (hX : LX θ) {p1 : Nat} (hH_p1 : LH θ p1) {d : Nat} (hd : 3 ≤ d) (C : Cx θ κ yX0_splitsBy cX0_splitsBy 7 (some Jvm.ClassFile.FieldType.boolean) [] d) {Φ : St → Int32 → Prop} {Φa : St → Prop} (hn : ∀ st r, Φ st r → Ph.1 st (some (.int r))) (ha : ∀ st q, Φa st → Ph.2 st "java/lang/ArithmeticException" q) {E183 : St → Int32 → Prop} (hE183 : ∀ (st : St) (x5 : Int32), E183 st x5 → X θ κ Ph st 183 [(5, .int x5)] []) : ∀ (n : Nat) (st : St) (x2 : Nat) (x5 : Int32) (x6 : Int32), sh st x2 = 8 → x2 < gBIG → w_X0_splitsBy_l151 p1 Φ Φa E183 n st x2 x5 x6 → X θ κ Ph st 151 [(0, .ref (ad θ 0)), (2, .ref (ad θ x2)), (5, .int x5), (6, .int x6)] [] := by
  intro n
  induction n with
  | zero => intro st x2 x5 x6 hs_x2 hb_x2 h; exact h.elim
  | succ n hK151 =>
    intro st x2 x5 x6 hs_x2 hb_x2 h
    rw [w_X0_splitsBy_l151] at h
    refine X_iload C dX0_splitsBy_151 3 rfl ?_
    refine X_aload_n C dX0_splitsBy_153 rfl 1 rfl (isRV_r _) ?_
    refine X_get (ci := 7) (j := 3) (q := (RX7, TX7, 4)) C rfl (by decide) q1272 rfl dX0_splitsBy_154 hs_x2 (v := .int (sI st x2 3)) rfl ?_
    refine X_icmp_ge (tgt := 183) C dX0_splitsBy_157 (by decide) (fun c33 => ?_) (fun c33 => ?_)
    · have h := h.1 c33
      refine X_sub [2] (lo2 := [(5, _)]) rfl ?_
      exact hE183 st x5 h
    · have h := h.2 c33
      refine X_iload C dX0_splitsBy_160 2 rfl ?_
      refine X_if_eq (tgt := 183) C dX0_splitsBy_162 (by decide) (fun c34 => ?_) (fun c34 => ?_)
      · have h := h.1 c34
        refine X_sub [2] (lo2 := [(5, _)]) rfl ?_
        exact hE183 st x5 h
      · have h := h.2 c34
        refine X_aload_n C dX0_splitsBy_165 rfl 0 rfl (isRV_r _) ?_
        refine X_getF (ci := 0) (j := 19) (q := (RX0, TX0, 49)) C rfl (by decide) q279 rfl dX0_splitsBy_166 (b := 134) (LX_S hX (k := 0) rfl) (LX_F hX (k := 0) (j := 19) rfl) rfl ?_
        refine X_iload C dX0_splitsBy_169 3 rfl ?_
        have g35 := h.1
        have h := h.2
        refine X_aaldF C 9 rfl (LX_S hX (k := 134) rfl) (by decide) rfl (LX_L hX (k := 134) rfl) g35 rfl (b := (164 + 2 * x6.toNatClampNeg)) (LXf_weight hX (i := x6.toNatClampNeg) (in_lt g35)).2 dX0_splitsBy_171 rfl ?_
        refine X_sh (LXf_weight hX (i := x6.toNatClampNeg) (in_lt g35)).1 (by decide) (fun hs36 hb37 => ?_)
        refine X_callV (ci := 2) (q := (RX2, TX2, 2)) (As := []) (rest := []) C rfl hs36 q786 q787 q788 q134 q789 ⟨rfl, nm_X2_isAbove⟩ rfl dX0_splitsBy_172 (m_X2_isAbove (Cx_l C) (d := d - 1) (by omega) st (164 + 2 * x6.toNatClampNeg) hs36 hb37 h) (by omega) (by decide) (Nat.le_of_ble_eq_true rfl) (fun s44 w39 hE40 hP41 => ?_) (fun s45 E42 q43 hE40 hP41 => ?_)
        rotate_left
        · exact False.elim hP41
        obtain ⟨r38, rfl, rfl, h⟩ := hP41
        refine X_tls ?_
        refine X_istore C dX0_splitsBy_175 (lo2 := [(5, _), (0, _), (2, _), (6, _)]) (by decide) rfl ?_
        refine X_iinc (v := (x6 + 1)) C (j := 3) dX0_splitsBy_177 rfl rfl (lo2 := [(6, _), (5, _), (0, _), (2, _)]) (by decide) rfl ?_
        refine X_goto (tgt := 151) C dX0_splitsBy_180 (by decide) ?_
        refine X_sub [2, 3, 1, 0] (lo2 := [(0, _), (2, _), (5, _), (6, _)]) rfl ?_
        exact hK151 st x2 r38 (x6 + 1) hs_x2 hb_x2 h
def w_X0_splitsBy_b183 (p1 : Nat) (Φ : St → Int32 → Prop) (Φa : St → Prop) (st : St) (x5 : Int32) : Prop := (x5 = 0 ∨ x5 = 1) ∧ Φ st x5
theorem t_X0_splitsBy_b183 {θ : Th} {κ : Kx} {Ph : Ph} (hX : LX θ) {p1 : Nat} (hH_p1 : LH θ p1) {d : Nat} (hd : 3 ≤ d) (C : Cx θ κ yX0_splitsBy cX0_splitsBy 7 (some Jvm.ClassFile.FieldType.boolean) [] d) {Φ : St → Int32 → Prop} {Φa : St → Prop} (hn : ∀ st r, Φ st r → Ph.1 st (some (.int r))) (ha : ∀ st q, Φa st → Ph.2 st "java/lang/ArithmeticException" q) (st : St) (x5 : Int32) (h : w_X0_splitsBy_b183 p1 Φ Φa st x5) : X θ κ Ph st 183 [(5, .int x5)] [] := by
  unfold w_X0_splitsBy_b183 at h
  refine X_iload C dX0_splitsBy_183 0 rfl ?_
  have g47 := h.1
  have h := h.2
  exact X_zret C rfl (nb_01 g47).1 dX0_splitsBy_185 (hn st _ h)
def w_X0_splitsBy_b148 (p1 : Nat) (Φ : St → Int32 → Prop) (Φa : St → Prop) (st : St) (x2 : Nat) (x5 : Int32) : Prop := w_X0_splitsBy_l151 p1 Φ Φa (fun (s46 : St) (x5 : Int32) => w_X0_splitsBy_b183 p1 Φ Φa s46 x5) gFU st x2 x5 0
theorem t_X0_splitsBy_b148 {θ : Th} {κ : Kx} {Ph : Ph} (hX : LX θ) {p1 : Nat} (hH_p1 : LH θ p1) {d : Nat} (hd : 3 ≤ d) (C : Cx θ κ yX0_splitsBy cX0_splitsBy 7 (some Jvm.ClassFile.FieldType.boolean) [] d) {Φ : St → Int32 → Prop} {Φa : St → Prop} (hn : ∀ st r, Φ st r → Ph.1 st (some (.int r))) (ha : ∀ st q, Φa st → Ph.2 st "java/lang/ArithmeticException" q) (st : St) (x2 : Nat) (x5 : Int32) (hs_x2 : sh st x2 = 8) (hb_x2 : x2 < gBIG) (h : w_X0_splitsBy_b148 p1 Φ Φa st x2 x5) : X θ κ Ph st 148 [(0, .ref (ad θ 0)), (2, .ref (ad θ x2)), (5, .int x5)] [] := by
  unfold w_X0_splitsBy_b148 at h
  refine X_iconst (v := 0) C dX0_splitsBy_148 rfl ?_
  refine X_istore C dX0_splitsBy_149 (lo2 := [(6, _), (0, _), (2, _), (5, _)]) (by decide) rfl ?_
  refine X_sub [1, 2, 3, 0] (lo2 := [(0, _), (2, _), (5, _), (6, _)]) rfl ?_
  refine t_X0_splitsBy_l151 hX hH_p1 hd C hn ha ?_ gFU st x2 x5 0 hs_x2 hb_x2 h
  · intro s46 x5 h
    exact t_X0_splitsBy_b183 hX hH_p1 hd C hn ha s46 x5 h
def w_X0_splitsBy_b55 (p1 : Nat) (Φ : St → Int32 → Prop) (Φa : St → Prop) (st : St) (x2 : Nat) (x3 : Nat) (x4 : Nat) (z0 : Int32) : Prop := w_X2_is st (164 + 2 * 0) 1 1 (fun (s22 : St) (r21 : Nat) => (((sI s22 x2 3) ≠ 2) → (((sI s22 x2 3) ≠ 3) → w_X0_splitsBy_b148 p1 Φ Φa s22 x2 z0) ∧ (((sI s22 x2 3) = 3) → ∃ r48, (sR s22 x2 2) = some r48 ∧ r48 < gBIG ∧ sh s22 r48 = 116 ∧ vp_in (1 : Int32) (ln s22 r48) ∧ ∃ r53, (sR s22 r48 (1 : Int32).toNatClampNeg) = some r53 ∧ r53 < gBIG ∧ sh s22 r53 = 8 ∧ vp_in (sI s22 r53 0) 15 ∧ vp_in (2 : Int32) (ln s22 r48) ∧ ∃ r59, (sR s22 r48 (2 : Int32).toNatClampNeg) = some r59 ∧ r59 < gBIG ∧ sh s22 r59 = 8 ∧ vp_in (sI s22 r59 0) 15 ∧ w_X0_weighsThree s22 x3 x4 (p1 + (16 + (sI s22 r53 0).toNatClampNeg)) (p1 + (16 + (sI s22 r59 0).toNatClampNeg)) (fun (s71 : St) (r70 : Int32) => w_X0_splitsBy_b148 p1 Φ Φa s71 x2 r70) Φa)) ∧ (((sI s22 x2 3) = 2) → ∃ r78, (sR s22 x2 2) = some r78 ∧ r78 < gBIG ∧ sh s22 r78 = 116 ∧ vp_in (1 : Int32) (ln s22 r78) ∧ ∃ r83, (sR s22 r78 (1 : Int32).toNatClampNeg) = some r83 ∧ r83 < gBIG ∧ sh s22 r83 = 8 ∧ vp_in (sI s22 r83 0) 15 ∧ w_X0_weighsTwo s22 x3 x4 (p1 + (16 + (sI s22 r83 0).toNatClampNeg)) (fun (s92 : St) (r91 : Int32) => w_X0_splitsBy_b148 p1 Φ Φa s92 x2 r91) Φa)) Φa
theorem t_X0_splitsBy_b55 {θ : Th} {κ : Kx} {Ph : Ph} (hX : LX θ) {p1 : Nat} (hH_p1 : LH θ p1) {d : Nat} (hd : 3 ≤ d) (C : Cx θ κ yX0_splitsBy cX0_splitsBy 7 (some Jvm.ClassFile.FieldType.boolean) [] d) {Φ : St → Int32 → Prop} {Φa : St → Prop} (hn : ∀ st r, Φ st r → Ph.1 st (some (.int r))) (ha : ∀ st q, Φa st → Ph.2 st "java/lang/ArithmeticException" q) (st : St) (x2 : Nat) (x3 : Nat) (x4 : Nat) (z0 : Int32) (hs_x2 : sh st x2 = 8) (hb_x2 : x2 < gBIG) (hs_x3 : sh st x3 = 101) (hb_x3 : x3 < gBIG) (hl_x3 : ln st x3 = 3) (hs_x4 : sh st x4 = 101) (hb_x4 : x4 < gBIG) (hl_x4 : ln st x4 = 3) (h : w_X0_splitsBy_b55 p1 Φ Φa st x2 x3 x4 z0) : X θ κ Ph st 55 [(0, .ref (ad θ 0)), (1, .ref (ad θ p1)), (2, .ref (ad θ x2)), (3, .ref (ad θ x3)), (4, .ref (ad θ x4))] [.int z0] := by
  unfold w_X0_splitsBy_b55 at h
  refine X_istore C dX0_splitsBy_55 (lo2 := [(5, _), (0, _), (1, _), (2, _), (3, _), (4, _)]) (by decide) rfl ?_
  refine X_aload_n C dX0_splitsBy_57 rfl 1 rfl (isRV_r _) ?_
  refine X_getF (ci := 0) (j := 19) (q := (RX0, TX0, 49)) C rfl (by decide) q279 rfl dX0_splitsBy_58 (b := 134) (LX_S hX (k := 0) rfl) (LX_F hX (k := 0) (j := 19) rfl) rfl ?_
  refine X_iconst (v := 0) C dX0_splitsBy_61 rfl ?_
  refine X_aaldF C 9 rfl (LX_S hX (k := 134) rfl) (by decide) rfl (LX_L hX (k := 134) rfl) (vp_dec rfl) rfl (b := (164 + 2 * 0)) (LXf_weight hX (i := 0) (by decide)).2 dX0_splitsBy_62 rfl ?_
  refine X_lconst (v := 1) C dX0_splitsBy_63 rfl ?_
  refine X_lconst (v := 1) C dX0_splitsBy_64 rfl ?_
  refine X_sh (LXf_weight hX (i := 0) (by decide)).1 (by decide) (fun hs19 hb20 => ?_)
  refine X_callV (ci := 2) (q := (RX2, TX2, 2)) (As := [_, _]) (rest := []) C rfl hs19 q714 q715 q716 q134 q717 ⟨rfl, nm_X2_is⟩ rfl dX0_splitsBy_65 (m_X2_is (Cx_l C) (d := d - 1) (by omega) st (164 + 2 * 0) 1 1 hs19 hb20 h) (by omega) (by decide) (Nat.le_of_ble_eq_true rfl) (fun s22 w23 hE24 hP25 => ?_) (fun s28 E26 q27 hE24 hP25 => ?_)
  rotate_left
  · rcases hP25 with ⟨rfl, h⟩
    exact XT_out C rfl (ha s28 q27 h)
  obtain ⟨r21, rfl, hb29, hs30, h⟩ := hP25
  refine X_tls ?_
  have hl_x3 := Ext_ln hE24 (by rw [hs_x3]; decide) hl_x3
  have hl_x4 := Ext_ln hE24 (by rw [hs_x4]; decide) hl_x4
  have hs_x2 := Ext_sh hE24 hs_x2 (by decide)
  have hs_x3 := Ext_sh hE24 hs_x3 (by decide)
  have hs_x4 := Ext_sh hE24 hs_x4 (by decide)
  refine X_pop C dX0_splitsBy_68 rfl ?_
  refine X_aload_n C dX0_splitsBy_69 rfl 3 rfl (isRV_r _) ?_
  refine X_get (ci := 7) (j := 3) (q := (RX7, TX7, 4)) C rfl (by decide) q1272 rfl dX0_splitsBy_70 hs_x2 (v := .int (sI s22 x2 3)) rfl ?_
  refine X_iconst (v := 2) C dX0_splitsBy_73 rfl ?_
  refine X_icmp_ne (tgt := 103) C dX0_splitsBy_74 (by decide) (fun c31 => ?_) (fun c31 => ?_)
  · have h := h.1 c31
    refine X_aload_n C dX0_splitsBy_103 rfl 3 rfl (isRV_r _) ?_
    refine X_get (ci := 7) (j := 3) (q := (RX7, TX7, 4)) C rfl (by decide) q1272 rfl dX0_splitsBy_104 hs_x2 (v := .int (sI s22 x2 3)) rfl ?_
    refine X_iconst (v := 3) C dX0_splitsBy_107 rfl ?_
    refine X_icmp_ne (tgt := 148) C dX0_splitsBy_108 (by decide) (fun c32 => ?_) (fun c32 => ?_)
    · have h := h.1 c32
      refine X_sub [1, 3, 0] (lo2 := [(0, _), (2, _), (5, _)]) rfl ?_
      exact t_X0_splitsBy_b148 hX hH_p1 hd C hn ha s22 x2 z0 hs_x2 hb_x2 h
    · have h := h.2 c32
      refine X_aload_n C dX0_splitsBy_111 rfl 1 rfl (isRV_r _) ?_
      refine X_aload_n C dX0_splitsBy_112 rfl 4 rfl (isRV_r _) ?_
      refine X_aload C dX0_splitsBy_113 5 rfl (isRV_r _) ?_
      refine X_aload_n C dX0_splitsBy_115 rfl 2 rfl (isRV_r _) ?_
      refine X_getNF (ci := 1) (j := 8) (q := (RX1, TX1, 10)) C rfl (by decide) q205 rfl dX0_splitsBy_116 (b := (p1 + 15)) (LH_0 hH_p1) (LH_F hH_p1 (k := 0) (j := 8) rfl) rfl ?_
      refine X_aload_n C dX0_splitsBy_119 rfl 3 rfl (isRV_r _) ?_
      refine X_get (ci := 7) (j := 2) (q := (RX7, TX7, 4)) C rfl (by decide) q1270 rfl dX0_splitsBy_120 hs_x2 (v := rv θ (sR s22 x2 2)) rfl ?_
      obtain ⟨r48, q49, hb51, hs50, h⟩ := h
      rw [q49]
      refine X_tor ?_
      refine X_iconst (v := 1) C dX0_splitsBy_123 rfl ?_
      have g52 := h.1
      have h := h.2
      refine X_aaldD (t := 116) C 11 rfl hs50 (by decide) rfl rfl g52 rfl rfl dX0_splitsBy_124 ?_
      obtain ⟨r53, q54, hb56, hs55, h⟩ := h
      rw [q54]
      refine X_tor ?_
      refine X_get (ci := 7) (j := 0) (q := (RX7, TX7, 4)) C rfl (by decide) q1266 rfl dX0_splitsBy_125 hs55 (v := .int (sI s22 r53 0)) rfl ?_
      have g57 := h.1
      have h := h.2
      refine X_aaldF C 6 rfl (LH_S hH_p1 (k := 15) rfl) (by decide) rfl (LH_L hH_p1 (k := 15) rfl) g57 rfl (b := (p1 + (16 + (sI s22 r53 0).toNatClampNeg))) (LHf_give hH_p1 (i := (sI s22 r53 0).toNatClampNeg) (in_lt g57)).2.2 dX0_splitsBy_128 rfl ?_
      refine X_aload_n C dX0_splitsBy_129 rfl 2 rfl (isRV_r _) ?_
      refine X_getNF (ci := 1) (j := 8) (q := (RX1, TX1, 10)) C rfl (by decide) q205 rfl dX0_splitsBy_130 (b := (p1 + 15)) (LH_0 hH_p1) (LH_F hH_p1 (k := 0) (j := 8) rfl) rfl ?_
      refine X_aload_n C dX0_splitsBy_133 rfl 3 rfl (isRV_r _) ?_
      refine X_get (ci := 7) (j := 2) (q := (RX7, TX7, 4)) C rfl (by decide) q1270 rfl dX0_splitsBy_134 hs_x2 (v := rv θ (sR s22 x2 2)) rfl ?_
      rw [q49]
      refine X_tor ?_
      refine X_iconst (v := 2) C dX0_splitsBy_137 rfl ?_
      have g58 := h.1
      have h := h.2
      refine X_aaldD (t := 116) C 11 rfl hs50 (by decide) rfl rfl g58 rfl rfl dX0_splitsBy_138 ?_
      obtain ⟨r59, q60, hb62, hs61, h⟩ := h
      rw [q60]
      refine X_tor ?_
      refine X_get (ci := 7) (j := 0) (q := (RX7, TX7, 4)) C rfl (by decide) q1266 rfl dX0_splitsBy_139 hs61 (v := .int (sI s22 r59 0)) rfl ?_
      have g63 := h.1
      have h := h.2
      refine X_aaldF C 6 rfl (LH_S hH_p1 (k := 15) rfl) (by decide) rfl (LH_L hH_p1 (k := 15) rfl) g63 rfl (b := (p1 + (16 + (sI s22 r59 0).toNatClampNeg))) (LHf_give hH_p1 (i := (sI s22 r59 0).toNatClampNeg) (in_lt g63)).2.2 dX0_splitsBy_142 rfl ?_
      refine X_shl (LHf_give hH_p1 (i := (sI s22 r53 0).toNatClampNeg) (in_lt g57)).1 (by decide) (LHf_give hH_p1 (i := (sI s22 r53 0).toNatClampNeg) (in_lt g57)).2.1 (fun hs64 hl66 hb65 => ?_)
      refine X_shl (LHf_give hH_p1 (i := (sI s22 r59 0).toNatClampNeg) (in_lt g63)).1 (by decide) (LHf_give hH_p1 (i := (sI s22 r59 0).toNatClampNeg) (in_lt g63)).2.1 (fun hs67 hl69 hb68 => ?_)
      refine X_callVS (ci := 0) (q := (RX0, TX0, 49)) (As := [_, _, _, _]) (rest := []) C rfl (LX_S hX (k := 0) rfl) q779 q781 qs20 q132 q782 ⟨rfl, nm_X0_weighsThree⟩ rfl dX0_splitsBy_143 (m_X0_weighsThree (Cx_l C) hX (d := d - 1) (by omega) s22 x3 x4 (p1 + (16 + (sI s22 r53 0).toNatClampNeg)) (p1 + (16 + (sI s22 r59 0).toNatClampNeg)) hs_x3 hb_x3 hl_x3 hs_x4 hb_x4 hl_x4 hs64 hb65 hl66 hs67 hb68 hl69 h) (by omega) (by decide) (Nat.le_of_ble_eq_true rfl) (fun s71 w72 hE73 hP74 => ?_) (fun s77 E75 q76 hE73 hP74 => ?_)
      rotate_left
      · rcases hP74 with ⟨rfl, h⟩
        exact XT_out C rfl (ha s77 q76 h)
      obtain ⟨r70, rfl, h⟩ := hP74
      refine X_tls ?_
      have hl_x3 := Ext_ln hE73 (by rw [hs_x3]; decide) hl_x3
      have hl_x4 := Ext_ln hE73 (by rw [hs_x4]; decide) hl_x4
      have hs_x2 := Ext_sh hE73 hs_x2 (by decide)
      have hs_x3 := Ext_sh hE73 hs_x3 (by decide)
      have hs_x4 := Ext_sh hE73 hs_x4 (by decide)
      have hs30 := Ext_sh hE73 hs30 (by decide)
      have hs50 := Ext_sh hE73 hs50 (by decide)
      have hs55 := Ext_sh hE73 hs55 (by decide)
      have hs61 := Ext_sh hE73 hs61 (by decide)
      refine X_istore C dX0_splitsBy_146 (lo2 := [(5, _), (0, _), (1, _), (2, _), (3, _), (4, _)]) (by decide) rfl ?_
      refine X_sub [1, 3, 0] (lo2 := [(0, _), (2, _), (5, _)]) rfl ?_
      exact t_X0_splitsBy_b148 hX hH_p1 hd C hn ha s71 x2 r70 hs_x2 hb_x2 h
  · have h := h.2 c31
    refine X_aload_n C dX0_splitsBy_77 rfl 1 rfl (isRV_r _) ?_
    refine X_aload_n C dX0_splitsBy_78 rfl 4 rfl (isRV_r _) ?_
    refine X_aload C dX0_splitsBy_79 5 rfl (isRV_r _) ?_
    refine X_aload_n C dX0_splitsBy_81 rfl 2 rfl (isRV_r _) ?_
    refine X_getNF (ci := 1) (j := 8) (q := (RX1, TX1, 10)) C rfl (by decide) q205 rfl dX0_splitsBy_82 (b := (p1 + 15)) (LH_0 hH_p1) (LH_F hH_p1 (k := 0) (j := 8) rfl) rfl ?_
    refine X_aload_n C dX0_splitsBy_85 rfl 3 rfl (isRV_r _) ?_
    refine X_get (ci := 7) (j := 2) (q := (RX7, TX7, 4)) C rfl (by decide) q1270 rfl dX0_splitsBy_86 hs_x2 (v := rv θ (sR s22 x2 2)) rfl ?_
    obtain ⟨r78, q79, hb81, hs80, h⟩ := h
    rw [q79]
    refine X_tor ?_
    refine X_iconst (v := 1) C dX0_splitsBy_89 rfl ?_
    have g82 := h.1
    have h := h.2
    refine X_aaldD (t := 116) C 11 rfl hs80 (by decide) rfl rfl g82 rfl rfl dX0_splitsBy_90 ?_
    obtain ⟨r83, q84, hb86, hs85, h⟩ := h
    rw [q84]
    refine X_tor ?_
    refine X_get (ci := 7) (j := 0) (q := (RX7, TX7, 4)) C rfl (by decide) q1266 rfl dX0_splitsBy_91 hs85 (v := .int (sI s22 r83 0)) rfl ?_
    have g87 := h.1
    have h := h.2
    refine X_aaldF C 6 rfl (LH_S hH_p1 (k := 15) rfl) (by decide) rfl (LH_L hH_p1 (k := 15) rfl) g87 rfl (b := (p1 + (16 + (sI s22 r83 0).toNatClampNeg))) (LHf_give hH_p1 (i := (sI s22 r83 0).toNatClampNeg) (in_lt g87)).2.2 dX0_splitsBy_94 rfl ?_
    refine X_shl (LHf_give hH_p1 (i := (sI s22 r83 0).toNatClampNeg) (in_lt g87)).1 (by decide) (LHf_give hH_p1 (i := (sI s22 r83 0).toNatClampNeg) (in_lt g87)).2.1 (fun hs88 hl90 hb89 => ?_)
    refine X_callVS (ci := 0) (q := (RX0, TX0, 49)) (As := [_, _, _]) (rest := []) C rfl (LX_S hX (k := 0) rfl) q775 q777 qs19 q132 q778 ⟨rfl, nm_X0_weighsTwo⟩ rfl dX0_splitsBy_95 (m_X0_weighsTwo (Cx_l C) hX (d := d - 1) (by omega) s22 x3 x4 (p1 + (16 + (sI s22 r83 0).toNatClampNeg)) hs_x3 hb_x3 hl_x3 hs_x4 hb_x4 hl_x4 hs88 hb89 hl90 h) (by omega) (by decide) (Nat.le_of_ble_eq_true rfl) (fun s92 w93 hE94 hP95 => ?_) (fun s98 E96 q97 hE94 hP95 => ?_)
    rotate_left
    · rcases hP95 with ⟨rfl, h⟩
      exact XT_out C rfl (ha s98 q97 h)
    obtain ⟨r91, rfl, h⟩ := hP95
    refine X_tls ?_
    have hl_x3 := Ext_ln hE94 (by rw [hs_x3]; decide) hl_x3
    have hl_x4 := Ext_ln hE94 (by rw [hs_x4]; decide) hl_x4
    have hs_x2 := Ext_sh hE94 hs_x2 (by decide)
    have hs_x3 := Ext_sh hE94 hs_x3 (by decide)
    have hs_x4 := Ext_sh hE94 hs_x4 (by decide)
    have hs30 := Ext_sh hE94 hs30 (by decide)
    have hs80 := Ext_sh hE94 hs80 (by decide)
    have hs85 := Ext_sh hE94 hs85 (by decide)
    refine X_istore C dX0_splitsBy_98 (lo2 := [(5, _), (0, _), (1, _), (2, _), (3, _), (4, _)]) (by decide) rfl ?_
    refine X_goto (tgt := 148) C dX0_splitsBy_100 (by decide) ?_
    refine X_sub [1, 3, 0] (lo2 := [(0, _), (2, _), (5, _)]) rfl ?_
    exact t_X0_splitsBy_b148 hX hH_p1 hd C hn ha s92 x2 r91 hs_x2 hb_x2 h
def w_X0_splitsBy_b50 (p1 : Nat) (Φ : St → Int32 → Prop) (Φa : St → Prop) (st : St) (x2 : Nat) (x3 : Nat) (x4 : Nat) : Prop := w_X0_splitsBy_b55 p1 Φ Φa st x2 x3 x4 1
theorem t_X0_splitsBy_b50 {θ : Th} {κ : Kx} {Ph : Ph} (hX : LX θ) {p1 : Nat} (hH_p1 : LH θ p1) {d : Nat} (hd : 3 ≤ d) (C : Cx θ κ yX0_splitsBy cX0_splitsBy 7 (some Jvm.ClassFile.FieldType.boolean) [] d) {Φ : St → Int32 → Prop} {Φa : St → Prop} (hn : ∀ st r, Φ st r → Ph.1 st (some (.int r))) (ha : ∀ st q, Φa st → Ph.2 st "java/lang/ArithmeticException" q) (st : St) (x2 : Nat) (x3 : Nat) (x4 : Nat) (hs_x2 : sh st x2 = 8) (hb_x2 : x2 < gBIG) (hs_x3 : sh st x3 = 101) (hb_x3 : x3 < gBIG) (hl_x3 : ln st x3 = 3) (hs_x4 : sh st x4 = 101) (hb_x4 : x4 < gBIG) (hl_x4 : ln st x4 = 3) (h : w_X0_splitsBy_b50 p1 Φ Φa st x2 x3 x4) : X θ κ Ph st 50 [(0, .ref (ad θ 0)), (1, .ref (ad θ p1)), (2, .ref (ad θ x2)), (3, .ref (ad θ x3)), (4, .ref (ad θ x4))] [] := by
  unfold w_X0_splitsBy_b50 at h
  refine X_iconst (v := 1) C dX0_splitsBy_50 rfl ?_
  refine X_goto (tgt := 55) C dX0_splitsBy_51 (by decide) ?_
  exact t_X0_splitsBy_b55 hX hH_p1 hd C hn ha st x2 x3 x4 1 hs_x2 hb_x2 hs_x3 hb_x3 hl_x3 hs_x4 hb_x4 hl_x4 h
def w_X0_splitsBy (p1 : Nat) (st : St) (p2 : Nat) (Φ : St → Int32 → Prop) (Φa : St → Prop) : Prop := vp_in (sI st p2 0) 15 ∧ ∃ r2, (sR st p2 2) = some r2 ∧ r2 < gBIG ∧ sh st r2 = 116 ∧ vp_in (0 : Int32) (ln st r2) ∧ ∃ r7, (sR st r2 (0 : Int32).toNatClampNeg) = some r7 ∧ r7 < gBIG ∧ sh st r7 = 8 ∧ vp_in (sI st r7 0) 15 ∧ ((1 < (sI st p2 3)) → w_X0_splitsBy_b50 p1 Φ Φa st p2 (p1 + (16 + (sI st p2 0).toNatClampNeg)) (p1 + (16 + (sI st r7 0).toNatClampNeg))) ∧ ((¬ 1 < (sI st p2 3)) → ∃ r99, (sR st r2 (0 : Int32).toNatClampNeg) = some r99 ∧ r99 < gBIG ∧ sh st r99 = 8 ∧ (((sI st r99 0) ≠ (sI st p2 0)) → w_X0_splitsBy_b55 p1 Φ Φa st p2 (p1 + (16 + (sI st p2 0).toNatClampNeg)) (p1 + (16 + (sI st r7 0).toNatClampNeg)) 0) ∧ (((sI st r99 0) = (sI st p2 0)) → w_X0_splitsBy_b50 p1 Φ Φa st p2 (p1 + (16 + (sI st p2 0).toNatClampNeg)) (p1 + (16 + (sI st r7 0).toNatClampNeg))))
theorem e_X0_splitsBy : plainFor yX0_splitsBy = true := plainFor_of_name (by decide +kernel)
theorem m_X0_splitsBy {θ : Th} {l : Launch} (hl0 : l.stackTraces = false) (hX : LX θ) {p1 : Nat} (hH_p1 : LH θ p1) {d : Nat} (hd : 3 ≤ d) (st : St) (p2 : Nat) (hs_p2 : sh st p2 = 8) (hb_p2 : p2 < gBIG) {Φ : St → Int32 → Prop} {Φa : St → Prop} (h : w_X0_splitsBy p1 st p2 Φ Φa) : Ct θ l yX0_splitsBy (ws_ yX0_splitsBy cX0_splitsBy 7 (some Jvm.ClassFile.FieldType.boolean)) d [.ref (ad θ 0), .ref (ad θ p1), .ref (ad θ p2)] st (pI Φ, (exA Φa)) := by
  refine Ct_entry hl0 e_X0_splitsBy (Nat.le_of_ble_eq_true rfl) (fun κ hκ _ C => ?_)
  have hn : ∀ st r, Φ st r → ((pI Φ, (exA Φa)) : Ph).1 st (some (.int r)) := fun st r q => ⟨r, rfl, q⟩
  have ha : ∀ st q, Φa st → ((pI Φ, (exA Φa)) : Ph).2 st "java/lang/ArithmeticException" q := fun st q2 q => ⟨rfl, q⟩
  change X _ _ _ _ _ [(0, .ref (ad θ 0)), (1, .ref (ad θ p1)), (2, .ref (ad θ p2))] _
  unfold w_X0_splitsBy at h
  refine X_aload_n C dX0_splitsBy_0 rfl 1 rfl (isRV_r _) ?_
  refine X_getNF (ci := 1) (j := 8) (q := (RX1, TX1, 10)) C rfl (by decide) q205 rfl dX0_splitsBy_1 (b := (p1 + 15)) (LH_0 hH_p1) (LH_F hH_p1 (k := 0) (j := 8) rfl) rfl ?_
  refine X_aload_n C dX0_splitsBy_4 rfl 2 rfl (isRV_r _) ?_
  refine X_get (ci := 7) (j := 0) (q := (RX7, TX7, 4)) C rfl (by decide) q1266 rfl dX0_splitsBy_5 hs_p2 (v := .int (sI st p2 0)) rfl ?_
  have g1 := h.1
  have h := h.2
  refine X_aaldF C 6 rfl (LH_S hH_p1 (k := 15) rfl) (by decide) rfl (LH_L hH_p1 (k := 15) rfl) g1 rfl (b := (p1 + (16 + (sI st p2 0).toNatClampNeg))) (LHf_give hH_p1 (i := (sI st p2 0).toNatClampNeg) (in_lt g1)).2.2 dX0_splitsBy_8 rfl ?_
  refine X_astore_n C dX0_splitsBy_9 rfl (isRV_r _) (lo2 := [(3, _), (0, _), (1, _), (2, _)]) (by decide) rfl ?_
  refine X_aload_n C dX0_splitsBy_10 rfl 2 rfl (isRV_r _) ?_
  refine X_getNF (ci := 1) (j := 8) (q := (RX1, TX1, 10)) C rfl (by decide) q205 rfl dX0_splitsBy_11 (b := (p1 + 15)) (LH_0 hH_p1) (LH_F hH_p1 (k := 0) (j := 8) rfl) rfl ?_
  refine X_aload_n C dX0_splitsBy_14 rfl 3 rfl (isRV_r _) ?_
  refine X_get (ci := 7) (j := 2) (q := (RX7, TX7, 4)) C rfl (by decide) q1270 rfl dX0_splitsBy_15 hs_p2 (v := rv θ (sR st p2 2)) rfl ?_
  obtain ⟨r2, q3, hb5, hs4, h⟩ := h
  rw [q3]
  refine X_tor ?_
  refine X_iconst (v := 0) C dX0_splitsBy_18 rfl ?_
  have g6 := h.1
  have h := h.2
  refine X_aaldD (t := 116) C 11 rfl hs4 (by decide) rfl rfl g6 rfl rfl dX0_splitsBy_19 ?_
  obtain ⟨r7, q8, hb10, hs9, h⟩ := h
  rw [q8]
  refine X_tor ?_
  refine X_get (ci := 7) (j := 0) (q := (RX7, TX7, 4)) C rfl (by decide) q1266 rfl dX0_splitsBy_20 hs9 (v := .int (sI st r7 0)) rfl ?_
  have g11 := h.1
  have h := h.2
  refine X_aaldF C 6 rfl (LH_S hH_p1 (k := 15) rfl) (by decide) rfl (LH_L hH_p1 (k := 15) rfl) g11 rfl (b := (p1 + (16 + (sI st r7 0).toNatClampNeg))) (LHf_give hH_p1 (i := (sI st r7 0).toNatClampNeg) (in_lt g11)).2.2 dX0_splitsBy_23 rfl ?_
  refine X_astore C dX0_splitsBy_24 (isRV_r _) (lo2 := [(4, _), (3, _), (0, _), (1, _), (2, _)]) (by decide) rfl ?_
  refine X_aload_n C dX0_splitsBy_26 rfl 4 rfl (isRV_r _) ?_
  refine X_get (ci := 7) (j := 3) (q := (RX7, TX7, 4)) C rfl (by decide) q1272 rfl dX0_splitsBy_27 hs_p2 (v := .int (sI st p2 3)) rfl ?_
  refine X_iconst (v := 1) C dX0_splitsBy_30 rfl ?_
  refine X_icmp_gt (tgt := 50) C dX0_splitsBy_31 (by decide) (fun c12 => ?_) (fun c12 => ?_)
  · have h := h.1 c12
    refine X_shl (LHf_give hH_p1 (i := (sI st p2 0).toNatClampNeg) (in_lt g1)).1 (by decide) (LHf_give hH_p1 (i := (sI st p2 0).toNatClampNeg) (in_lt g1)).2.1 (fun hs13 hl15 hb14 => ?_)
    refine X_shl (LHf_give hH_p1 (i := (sI st r7 0).toNatClampNeg) (in_lt g11)).1 (by decide) (LHf_give hH_p1 (i := (sI st r7 0).toNatClampNeg) (in_lt g11)).2.1 (fun hs16 hl18 hb17 => ?_)
    refine X_sub [2, 3, 4, 1, 0] (lo2 := [(0, _), (1, _), (2, _), (3, _), (4, _)]) rfl ?_
    exact t_X0_splitsBy_b50 hX hH_p1 hd C hn ha st p2 (p1 + (16 + (sI st p2 0).toNatClampNeg)) (p1 + (16 + (sI st r7 0).toNatClampNeg)) hs_p2 hb_p2 hs13 hb14 hl15 hs16 hb17 hl18 h
  · have h := h.2 c12
    refine X_aload_n C dX0_splitsBy_34 rfl 4 rfl (isRV_r _) ?_
    refine X_get (ci := 7) (j := 2) (q := (RX7, TX7, 4)) C rfl (by decide) q1270 rfl dX0_splitsBy_35 hs_p2 (v := rv θ (sR st p2 2)) rfl ?_
    rw [q3]
    refine X_tor ?_
    refine X_iconst (v := 0) C dX0_splitsBy_38 rfl ?_
    refine X_aaldD (t := 116) C 11 rfl hs4 (by decide) rfl rfl g6 rfl rfl dX0_splitsBy_39 ?_
    obtain ⟨r99, q100, hb102, hs101, h⟩ := h
    rw [q100]
    refine X_tor ?_
    refine X_get (ci := 7) (j := 0) (q := (RX7, TX7, 4)) C rfl (by decide) q1266 rfl dX0_splitsBy_40 hs101 (v := .int (sI st r99 0)) rfl ?_
    refine X_aload_n C dX0_splitsBy_43 rfl 4 rfl (isRV_r _) ?_
    refine X_get (ci := 7) (j := 0) (q := (RX7, TX7, 4)) C rfl (by decide) q1266 rfl dX0_splitsBy_44 hs_p2 (v := .int (sI st p2 0)) rfl ?_
    refine X_icmp_ne (tgt := 54) C dX0_splitsBy_47 (by decide) (fun c103 => ?_) (fun c103 => ?_)
    · have h := h.1 c103
      refine X_iconst (v := 0) C dX0_splitsBy_54 rfl ?_
      refine X_shl (LHf_give hH_p1 (i := (sI st p2 0).toNatClampNeg) (in_lt g1)).1 (by decide) (LHf_give hH_p1 (i := (sI st p2 0).toNatClampNeg) (in_lt g1)).2.1 (fun hs104 hl106 hb105 => ?_)
      refine X_shl (LHf_give hH_p1 (i := (sI st r7 0).toNatClampNeg) (in_lt g11)).1 (by decide) (LHf_give hH_p1 (i := (sI st r7 0).toNatClampNeg) (in_lt g11)).2.1 (fun hs107 hl109 hb108 => ?_)
      refine X_sub [2, 3, 4, 1, 0] (lo2 := [(0, _), (1, _), (2, _), (3, _), (4, _)]) rfl ?_
      exact t_X0_splitsBy_b55 hX hH_p1 hd C hn ha st p2 (p1 + (16 + (sI st p2 0).toNatClampNeg)) (p1 + (16 + (sI st r7 0).toNatClampNeg)) 0 hs_p2 hb_p2 hs104 hb105 hl106 hs107 hb108 hl109 h
    · have h := h.2 c103
      refine X_shl (LHf_give hH_p1 (i := (sI st p2 0).toNatClampNeg) (in_lt g1)).1 (by decide) (LHf_give hH_p1 (i := (sI st p2 0).toNatClampNeg) (in_lt g1)).2.1 (fun hs110 hl112 hb111 => ?_)
      refine X_shl (LHf_give hH_p1 (i := (sI st r7 0).toNatClampNeg) (in_lt g11)).1 (by decide) (LHf_give hH_p1 (i := (sI st r7 0).toNatClampNeg) (in_lt g11)).2.1 (fun hs113 hl115 hb114 => ?_)
      refine X_sub [2, 3, 4, 1, 0] (lo2 := [(0, _), (1, _), (2, _), (3, _), (4, _)]) rfl ?_
      exact t_X0_splitsBy_b50 hX hH_p1 hd C hn ha st p2 (p1 + (16 + (sI st p2 0).toNatClampNeg)) (p1 + (16 + (sI st r7 0).toNatClampNeg)) hs_p2 hb_p2 hs110 hb111 hl112 hs113 hb114 hl115 h

theorem nm_X0_isSplit : yX0_isSplit.cls ≠ "java/lang/invoke/MethodHandle" ∧ yX0_isSplit.cls ≠ "java/lang/invoke/VarHandle" ∧ (parseMethodDescriptor yX0_isSplit.desc).map (fun d => d.parameters.length) = some 1 := by decide +kernel
def w_X0_isSplit (st : St) (p1 : Nat) (Φ : St → Int32 → Prop) : Prop := w_X0_splitsBy 64 st p1 (fun (s2 : St) (r1 : Int32) => (r1 = 0 ∨ r1 = 1) ∧ Φ s2 r1) (fun _ => False)
theorem e_X0_isSplit : plainFor yX0_isSplit = true := plainFor_of_name (by decide +kernel)
theorem m_X0_isSplit {θ : Th} {l : Launch} (hl0 : l.stackTraces = false) (hX : LX θ) {d : Nat} (hd : 4 ≤ d) (st : St) (p1 : Nat) (hs_p1 : sh st p1 = 8) (hb_p1 : p1 < gBIG) {Φ : St → Int32 → Prop} (h : w_X0_isSplit st p1 Φ) : Ct θ l yX0_isSplit (ws_ yX0_isSplit cX0_isSplit 2 (some Jvm.ClassFile.FieldType.boolean)) d [.ref (ad θ 0), .ref (ad θ p1)] st (pI Φ, noX) := by
  refine Ct_entry hl0 e_X0_isSplit (Nat.le_of_ble_eq_true rfl) (fun κ hκ _ C => ?_)
  have hn : ∀ st r, Φ st r → ((pI Φ, noX) : Ph).1 st (some (.int r)) := fun st r q => ⟨r, rfl, q⟩
  change X _ _ _ _ _ [(0, .ref (ad θ 0)), (1, .ref (ad θ p1))] _
  unfold w_X0_isSplit at h
  refine X_aload_n C dX0_isSplit_0 rfl 0 rfl (isRV_r _) ?_
  refine X_aload_n C dX0_isSplit_1 rfl 0 rfl (isRV_r _) ?_
  refine X_getF (ci := 0) (j := 3) (q := (RX0, TX0, 49)) C rfl (by decide) q263 rfl dX0_isSplit_2 (b := 64) (LX_S hX (k := 0) rfl) (LX_F hX (k := 0) (j := 3) rfl) rfl ?_
  refine X_aload_n C dX0_isSplit_5 rfl 1 rfl (isRV_r _) ?_
  refine X_callVS (ci := 0) (q := (RX0, TX0, 49)) (As := [_, _]) (rest := []) C rfl (LX_S hX (k := 0) rfl) q1295 q1297 qs50 q132 q1298 ⟨rfl, nm_X0_splitsBy⟩ rfl dX0_isSplit_6 (m_X0_splitsBy (Cx_l C) hX (LX_H64 hX) (d := d - 1) (by omega) st p1 hs_p1 hb_p1 h) (by omega) (by decide) (Nat.le_of_ble_eq_true rfl) (fun s2 w3 hE4 hP5 => ?_) (fun s8 E6 q7 hE4 hP5 => ?_)
  rotate_left
  · rcases hP5 with ⟨rfl, h⟩
    exact h.elim
  obtain ⟨r1, rfl, h⟩ := hP5
  refine X_tls ?_
  have hs_p1 := Ext_sh hE4 hs_p1 (by decide)
  have g9 := h.1
  have h := h.2
  exact X_zret C rfl (nb_01 g9).1 dX0_isSplit_9 (hn s2 _ h)

theorem nm_X0_readsUnder : yX0_readsUnder.cls ≠ "java/lang/invoke/MethodHandle" ∧ yX0_readsUnder.cls ≠ "java/lang/invoke/VarHandle" ∧ (parseMethodDescriptor yX0_readsUnder.desc).map (fun d => d.parameters.length) = some 1 := by decide +kernel
theorem nm_X0_readsNode : yX0_readsNode.cls ≠ "java/lang/invoke/MethodHandle" ∧ yX0_readsNode.cls ≠ "java/lang/invoke/VarHandle" ∧ (parseMethodDescriptor yX0_readsNode.desc).map (fun d => d.parameters.length) = some 1 := by decide +kernel
def w_X0_readsUnder_b73 (rec : St → Int32 → (St → Nat → Prop) → (St → Nat → Prop) → Prop) (Φ : St → Prop) (Φf : St → Nat → Prop) (K40 : St → Nat → Prop) (st : St) (x1 : Nat) (z0 : Int32) : Prop := w_X0_wants st z0 (fun (s49 : St) => ∃ r56, (sR s49 x1 2) = some r56 ∧ r56 < gBIG ∧ sh s49 r56 = 116 ∧ vp_in ((sI s49 x1 3) - 1) (ln s49 r56) ∧ ∃ r61, (sR s49 r56 ((sI s49 x1 3) - 1).toNatClampNeg) = some r61 ∧ r61 < gBIG ∧ sh s49 r61 = 8 ∧ rec s49 (sI s49 r61 0) (fun (s66 : St) (r65 : Nat) => w_X7_add s66 x1 r65 (fun (s76 : St) => K40 s76 x1)) Φf) Φf
theorem t_X0_readsUnder_b73 {θ : Th} {κ : Kx} {Ph : Ph} (hX : LX θ) {rec : St → Int32 → (St → Nat → Prop) → (St → Nat → Prop) → Prop} {dR : Nat} (hrec : ∀ {d : Nat}, dR ≤ d → ∀ (st : St) (p1 : Int32), ∀ {Φ : St → Nat → Prop} {Φf : St → Nat → Prop}, rec st p1 Φ Φf → Ct θ κ.2.1 yX0_readsNode (ws_ yX0_readsNode cX0_readsNode 3 (some (Jvm.ClassFile.FieldType.object "SecretsWorth$Node"))) d [.ref (ad θ 0), .int p1] st (pN θ 8 Φ, (exF θ Φf))) {d : Nat} (hd : 7 ≤ d) (hdR : dR + 1 ≤ d) (C : Cx θ κ yX0_readsUnder cX0_readsUnder 2 (none : Option Jvm.ClassFile.FieldType) [] d) {Φ : St → Prop} {Φf : St → Nat → Prop} (hn : ∀ st, Φ st → Ph.1 st none) (hf : ∀ st a, a < gBIG → sh st a = 7 → Φf st a → Ph.2 st "SecretsWorth$Fault" (ad θ a)) {K40 : St → Nat → Prop} (hK40 : ∀ (st : St) (x1 : Nat), sh st x1 = 8 → x1 < gBIG → K40 st x1 → X θ κ Ph st 40 [(0, .ref (ad θ 0)), (1, .ref (ad θ x1))] []) (st : St) (x1 : Nat) (z0 : Int32) (hs_x1 : sh st x1 = 8) (hb_x1 : x1 < gBIG) (h : w_X0_readsUnder_b73 rec Φ Φf K40 st x1 z0) : X θ κ Ph st 73 [(0, .ref (ad θ 0)), (1, .ref (ad θ x1))] [.int z0, .ref (ad θ 0)] := by
  unfold w_X0_readsUnder_b73 at h
  refine X_callVS (ci := 0) (q := (RX0, TX0, 49)) (As := [_]) (rest := []) C rfl (LX_S hX (k := 0) rfl) q1144 q1146 qs42 q132 q1147 ⟨rfl, nm_X0_wants⟩ rfl dX0_readsUnder_73 (m_X0_wants (Cx_l C) hX (d := d - 1) (by omega) st z0 h) (by omega) (by decide) (Nat.le_of_ble_eq_true rfl) (fun s49 w50 hE51 hP52 => ?_) (fun s55 E53 q54 hE51 hP52 => ?_)
  rotate_left
  · rcases hP52 with ⟨rfl, a_, rfl, hb_, hs_, h⟩
    exact XT_out C rfl (hf s55 a_ hb_ hs_ h)
  obtain ⟨rfl, h⟩ := hP52
  refine X_tln ?_
  have hs_x1 := Ext_sh hE51 hs_x1 (by decide)
  refine X_aload_n C dX0_readsUnder_76 rfl 1 rfl (isRV_r _) ?_
  refine X_aload_n C dX0_readsUnder_77 rfl 0 rfl (isRV_r _) ?_
  refine X_aload_n C dX0_readsUnder_78 rfl 1 rfl (isRV_r _) ?_
  refine X_get (ci := 7) (j := 2) (q := (RX7, TX7, 4)) C rfl (by decide) q1270 rfl dX0_readsUnder_79 hs_x1 (v := rv θ (sR s49 x1 2)) rfl ?_
  obtain ⟨r56, q57, hb59, hs58, h⟩ := h
  rw [q57]
  refine X_tor ?_
  refine X_aload_n C dX0_readsUnder_82 rfl 1 rfl (isRV_r _) ?_
  refine X_get (ci := 7) (j := 3) (q := (RX7, TX7, 4)) C rfl (by decide) q1272 rfl dX0_readsUnder_83 hs_x1 (v := .int (sI s49 x1 3)) rfl ?_
  refine X_iconst (v := 1) C dX0_readsUnder_86 rfl ?_
  refine X_isub C dX0_readsUnder_87 ?_
  have g60 := h.1
  have h := h.2
  refine X_aaldD (t := 116) C 11 rfl hs58 (by decide) rfl rfl g60 rfl rfl dX0_readsUnder_88 ?_
  obtain ⟨r61, q62, hb64, hs63, h⟩ := h
  rw [q62]
  refine X_tor ?_
  refine X_get (ci := 7) (j := 0) (q := (RX7, TX7, 4)) C rfl (by decide) q1266 rfl dX0_readsUnder_89 hs63 (v := .int (sI s49 r61 0)) rfl ?_
  refine X_callVS (ci := 0) (q := (RX0, TX0, 49)) (As := [_]) (rest := [_]) C rfl (LX_S hX (k := 0) rfl) q1253 q1255 qs47 q132 q1256 ⟨rfl, nm_X0_readsNode⟩ rfl dX0_readsUnder_92 (hrec (d := d - 1) (by omega) s49 (sI s49 r61 0) h) (by omega) (by decide) (Nat.le_of_ble_eq_true rfl) (fun s66 w67 hE68 hP69 => ?_) (fun s72 E70 q71 hE68 hP69 => ?_)
  rotate_left
  · rcases hP69 with ⟨rfl, a_, rfl, hb_, hs_, h⟩
    exact XT_out C rfl (hf s72 a_ hb_ hs_ h)
  obtain ⟨r65, rfl, hb73, hs74, h⟩ := hP69
  refine X_tls ?_
  have hs_x1 := Ext_sh hE68 hs_x1 (by decide)
  have hs58 := Ext_sh hE68 hs58 (by decide)
  have hs63 := Ext_sh hE68 hs63 (by decide)
  refine X_callV (ci := 7) (q := (RX7, TX7, 4)) (As := [_]) (rest := []) C rfl hs_x1 q1287 q1288 q1289 q158 q1290 ⟨rfl, nm_X7_add⟩ rfl dX0_readsUnder_95 (m_X7_add (Cx_l C) hX (d := d - 1) (by omega) s66 x1 r65 hs_x1 hb_x1 hs74 hb73 h) (by omega) (by decide) (Nat.le_of_ble_eq_true rfl) (fun s76 w77 hE78 hP79 => ?_) (fun s82 E80 q81 hE78 hP79 => ?_)
  rotate_left
  · exact False.elim hP79
  obtain ⟨rfl, h⟩ := hP79
  refine X_tln ?_
  have hs_x1 := Ext_sh hE78 hs_x1 (by decide)
  have hs58 := Ext_sh hE78 hs58 (by decide)
  have hs63 := Ext_sh hE78 hs63 (by decide)
  have hs74 := Ext_sh hE78 hs74 (by decide)
  refine X_goto (tgt := 40) C dX0_readsUnder_98 (by decide) ?_
  exact hK40 s76 x1 hs_x1 hb_x1 h
def w_X0_readsUnder_l40 (rec : St → Int32 → (St → Nat → Prop) → (St → Nat → Prop) → Prop) (Φ : St → Prop) (Φf : St → Nat → Prop) (E101 : St → Nat → Prop) : Nat → St → Nat → Prop
  | 0, _, _ => False
  | n + 1, st, x1 => (((sI st 0 38) ≠ 44) → E101 st x1) ∧ (((sI st 0 38) = 44) → w_X0_next st (fun (s40 : St) => (((sI s40 64 0) ≤ (sI s40 x1 3)) → w_X0_readsUnder_b73 rec Φ Φf (w_X0_readsUnder_l40 rec Φ Φf E101 n) s40 x1 0) ∧ ((¬ (sI s40 64 0) ≤ (sI s40 x1 3)) → w_X0_readsUnder_b73 rec Φ Φf (w_X0_readsUnder_l40 rec Φ Φf E101 n) s40 x1 1)) Φf)
theorem t_X0_readsUnder_l40 {θ : Th} {κ : Kx} {Ph : Ph} (hX : LX θ) {rec : St → Int32 → (St → Nat → Prop) → (St → Nat → Prop) → Prop} {dR : Nat} (hrec : ∀ {d : Nat}, dR ≤ d → ∀ (st : St) (p1 : Int32), ∀ {Φ : St → Nat → Prop} {Φf : St → Nat → Prop}, rec st p1 Φ Φf → Ct θ κ.2.1 yX0_readsNode (ws_ yX0_readsNode cX0_readsNode 3 (some (Jvm.ClassFile.FieldType.object "SecretsWorth$Node"))) d [.ref (ad θ 0), .int p1] st (pN θ 8 Φ, (exF θ Φf))) {d : Nat} (hd : 7 ≤ d) (hdR : dR + 1 ≤ d) (C : Cx θ κ yX0_readsUnder cX0_readsUnder 2 (none : Option Jvm.ClassFile.FieldType) [] d) {Φ : St → Prop} {Φf : St → Nat → Prop} (hn : ∀ st, Φ st → Ph.1 st none) (hf : ∀ st a, a < gBIG → sh st a = 7 → Φf st a → Ph.2 st "SecretsWorth$Fault" (ad θ a)) {E101 : St → Nat → Prop} (hE101 : ∀ (st : St) (x1 : Nat), sh st x1 = 8 → x1 < gBIG → E101 st x1 → X θ κ Ph st 101 [(0, .ref (ad θ 0)), (1, .ref (ad θ x1))] []) : ∀ (n : Nat) (st : St) (x1 : Nat), sh st x1 = 8 → x1 < gBIG → w_X0_readsUnder_l40 rec Φ Φf E101 n st x1 → X θ κ Ph st 40 [(0, .ref (ad θ 0)), (1, .ref (ad θ x1))] [] := by
  intro n
  induction n with
  | zero => intro st x1 hs_x1 hb_x1 h; exact h.elim
  | succ n hK40 =>
    intro st x1 hs_x1 hb_x1 h
    rw [w_X0_readsUnder_l40] at h
    refine X_aload_n C dX0_readsUnder_40 rfl 0 rfl (isRV_r _) ?_
    refine X_getS (ci := 0) (j := 38) (q := (RX0, TX0, 49)) C rfl (by decide) q298 rfl dX0_readsUnder_41 (LX_S hX (k := 0) rfl) (v := .int (sI st 0 38)) rfl ?_
    refine X_bipush (v := 44) C dX0_readsUnder_44 rfl ?_
    refine X_icmp_ne (tgt := 101) C dX0_readsUnder_46 (by decide) (fun c38 => ?_) (fun c38 => ?_)
    · have h := h.1 c38
      exact hE101 st x1 hs_x1 hb_x1 h
    · have h := h.2 c38
      refine X_aload_n C dX0_readsUnder_49 rfl 0 rfl (isRV_r _) ?_
      refine X_callVS (ci := 0) (q := (RX0, TX0, 49)) (As := []) (rest := []) C rfl (LX_S hX (k := 0) rfl) q950 q952 qs39 q132 q953 ⟨rfl, nm_X0_next⟩ rfl dX0_readsUnder_50 (m_X0_next (Cx_l C) hX (d := d - 1) (by omega) st h) (by omega) (by decide) (Nat.le_of_ble_eq_true rfl) (fun s40 w41 hE42 hP43 => ?_) (fun s46 E44 q45 hE42 hP43 => ?_)
      rotate_left
      · rcases hP43 with ⟨rfl, a_, rfl, hb_, hs_, h⟩
        exact XT_out C rfl (hf s46 a_ hb_ hs_ h)
      obtain ⟨rfl, h⟩ := hP43
      refine X_tln ?_
      have hs_x1 := Ext_sh hE42 hs_x1 (by decide)
      refine X_aload_n C dX0_readsUnder_53 rfl 0 rfl (isRV_r _) ?_
      refine X_aload_n C dX0_readsUnder_54 rfl 1 rfl (isRV_r _) ?_
      refine X_get (ci := 7) (j := 3) (q := (RX7, TX7, 4)) C rfl (by decide) q1272 rfl dX0_readsUnder_55 hs_x1 (v := .int (sI s40 x1 3)) rfl ?_
      refine X_aload_n C dX0_readsUnder_58 rfl 0 rfl (isRV_r _) ?_
      refine X_getF (ci := 0) (j := 3) (q := (RX0, TX0, 49)) C rfl (by decide) q263 rfl dX0_readsUnder_59 (b := 64) (LX_S hX (k := 0) rfl) (LX_F hX (k := 0) (j := 3) rfl) rfl ?_
      refine X_getNS (ci := 1) (j := 0) (q := (RX1, TX1, 10)) C rfl (by decide) q189 rfl dX0_readsUnder_62 (LH_0 (LX_H64 hX)) (v := .int (sI s40 64 0)) rfl ?_
      refine X_icmp_ge (tgt := 72) C dX0_readsUnder_65 (by decide) (fun c47 => ?_) (fun c47 => ?_)
      · have h := h.1 c47
        refine X_iconst (v := 0) C dX0_readsUnder_72 rfl ?_
        exact t_X0_readsUnder_b73 hX hrec hd hdR C hn hf hK40 s40 x1 0 hs_x1 hb_x1 h
      · have h := h.2 c47
        refine X_iconst (v := 1) C dX0_readsUnder_68 rfl ?_
        refine X_goto (tgt := 73) C dX0_readsUnder_69 (by decide) ?_
        exact t_X0_readsUnder_b73 hX hrec hd hdR C hn hf hK40 s40 x1 1 hs_x1 hb_x1 h
def w_X0_readsUnder_b124 (rec : St → Int32 → (St → Nat → Prop) → (St → Nat → Prop) → Prop) (Φ : St → Prop) (Φf : St → Nat → Prop) (st : St) (z0 : Int32) : Prop := w_X0_wants st z0 (fun (s86 : St) => ∀ s93, s93 = putI s86 0 40 ((sI s86 0 40) - 1) → w_X0_next s93 (fun (s96 : St) => Φ s96) Φf) Φf
theorem t_X0_readsUnder_b124 {θ : Th} {κ : Kx} {Ph : Ph} (hX : LX θ) {rec : St → Int32 → (St → Nat → Prop) → (St → Nat → Prop) → Prop} {dR : Nat} (hrec : ∀ {d : Nat}, dR ≤ d → ∀ (st : St) (p1 : Int32), ∀ {Φ : St → Nat → Prop} {Φf : St → Nat → Prop}, rec st p1 Φ Φf → Ct θ κ.2.1 yX0_readsNode (ws_ yX0_readsNode cX0_readsNode 3 (some (Jvm.ClassFile.FieldType.object "SecretsWorth$Node"))) d [.ref (ad θ 0), .int p1] st (pN θ 8 Φ, (exF θ Φf))) {d : Nat} (hd : 7 ≤ d) (hdR : dR + 1 ≤ d) (C : Cx θ κ yX0_readsUnder cX0_readsUnder 2 (none : Option Jvm.ClassFile.FieldType) [] d) {Φ : St → Prop} {Φf : St → Nat → Prop} (hn : ∀ st, Φ st → Ph.1 st none) (hf : ∀ st a, a < gBIG → sh st a = 7 → Φf st a → Ph.2 st "SecretsWorth$Fault" (ad θ a)) (st : St) (z0 : Int32) (h : w_X0_readsUnder_b124 rec Φ Φf st z0) : X θ κ Ph st 124 [(0, .ref (ad θ 0))] [.int z0, .ref (ad θ 0)] := by
  unfold w_X0_readsUnder_b124 at h
  refine X_callVS (ci := 0) (q := (RX0, TX0, 49)) (As := [_]) (rest := []) C rfl (LX_S hX (k := 0) rfl) q1144 q1146 qs42 q132 q1147 ⟨rfl, nm_X0_wants⟩ rfl dX0_readsUnder_124 (m_X0_wants (Cx_l C) hX (d := d - 1) (by omega) st z0 h) (by omega) (by decide) (Nat.le_of_ble_eq_true rfl) (fun s86 w87 hE88 hP89 => ?_) (fun s92 E90 q91 hE88 hP89 => ?_)
  rotate_left
  · rcases hP89 with ⟨rfl, a_, rfl, hb_, hs_, h⟩
    exact XT_out C rfl (hf s92 a_ hb_ hs_ h)
  obtain ⟨rfl, h⟩ := hP89
  refine X_tln ?_
  refine X_aload_n C dX0_readsUnder_127 rfl 0 rfl (isRV_r _) ?_
  refine X_dup C dX0_readsUnder_128 rfl ?_
  refine X_getS (ci := 0) (j := 40) (q := (RX0, TX0, 49)) C rfl (by decide) q300 rfl dX0_readsUnder_129 (LX_S hX (k := 0) rfl) (v := .int (sI s86 0 40)) rfl ?_
  refine X_iconst (v := 1) C dX0_readsUnder_132 rfl ?_
  refine X_isub C dX0_readsUnder_133 ?_
  refine X_putSI (ci := 0) (j := 40) (q := (RX0, TX0, 49)) C rfl (by decide) q300 rfl rfl dX0_readsUnder_134 (LX_S hX (k := 0) rfl) rfl rfl rfl ?_
  refine X_nm (fun s93 e94 => ?_)
  have h := h s93 e94
  refine X_aload_n C dX0_readsUnder_137 rfl 0 rfl (isRV_r _) ?_
  refine X_callVS (ci := 0) (q := (RX0, TX0, 49)) (As := []) (rest := []) C rfl (LX_S hX (k := 0) rfl) q950 q952 qs39 q132 q953 ⟨rfl, nm_X0_next⟩ rfl dX0_readsUnder_138 (m_X0_next (Cx_l C) hX (d := d - 1) (by omega) s93 h) (by omega) (by decide) (Nat.le_of_ble_eq_true rfl) (fun s96 w97 hE98 hP99 => ?_) (fun s102 E100 q101 hE98 hP99 => ?_)
  rotate_left
  · rcases hP99 with ⟨rfl, a_, rfl, hb_, hs_, h⟩
    exact XT_out C rfl (hf s102 a_ hb_ hs_ h)
  obtain ⟨rfl, h⟩ := hP99
  refine X_tln ?_
  exact X_vret C rfl dX0_readsUnder_141 (hn s96 h)
def w_X0_readsUnder_b123 (rec : St → Int32 → (St → Nat → Prop) → (St → Nat → Prop) → Prop) (Φ : St → Prop) (Φf : St → Nat → Prop) (st : St) : Prop := w_X0_readsUnder_b124 rec Φ Φf st 0
theorem t_X0_readsUnder_b123 {θ : Th} {κ : Kx} {Ph : Ph} (hX : LX θ) {rec : St → Int32 → (St → Nat → Prop) → (St → Nat → Prop) → Prop} {dR : Nat} (hrec : ∀ {d : Nat}, dR ≤ d → ∀ (st : St) (p1 : Int32), ∀ {Φ : St → Nat → Prop} {Φf : St → Nat → Prop}, rec st p1 Φ Φf → Ct θ κ.2.1 yX0_readsNode (ws_ yX0_readsNode cX0_readsNode 3 (some (Jvm.ClassFile.FieldType.object "SecretsWorth$Node"))) d [.ref (ad θ 0), .int p1] st (pN θ 8 Φ, (exF θ Φf))) {d : Nat} (hd : 7 ≤ d) (hdR : dR + 1 ≤ d) (C : Cx θ κ yX0_readsUnder cX0_readsUnder 2 (none : Option Jvm.ClassFile.FieldType) [] d) {Φ : St → Prop} {Φf : St → Nat → Prop} (hn : ∀ st, Φ st → Ph.1 st none) (hf : ∀ st a, a < gBIG → sh st a = 7 → Φf st a → Ph.2 st "SecretsWorth$Fault" (ad θ a)) (st : St) (h : w_X0_readsUnder_b123 rec Φ Φf st) : X θ κ Ph st 123 [(0, .ref (ad θ 0))] [.ref (ad θ 0)] := by
  unfold w_X0_readsUnder_b123 at h
  refine X_iconst (v := 0) C dX0_readsUnder_123 rfl ?_
  exact t_X0_readsUnder_b124 hX hrec hd hdR C hn hf st 0 h
def w_X0_readsUnder_b101 (rec : St → Int32 → (St → Nat → Prop) → (St → Nat → Prop) → Prop) (Φ : St → Prop) (Φf : St → Nat → Prop) (st : St) (x1 : Nat) : Prop := (((sI st 0 38) ≠ 93) → w_X0_readsUnder_b123 rec Φ Φf st) ∧ (((sI st 0 38) = 93) → w_X0_isSplit st x1 (fun (s104 : St) (r103 : Int32) => ((r103 = 0) → w_X0_readsUnder_b123 rec Φ Φf s104) ∧ ((¬ r103 = 0) → w_X0_readsUnder_b124 rec Φ Φf s104 1)))
theorem t_X0_readsUnder_b101 {θ : Th} {κ : Kx} {Ph : Ph} (hX : LX θ) {rec : St → Int32 → (St → Nat → Prop) → (St → Nat → Prop) → Prop} {dR : Nat} (hrec : ∀ {d : Nat}, dR ≤ d → ∀ (st : St) (p1 : Int32), ∀ {Φ : St → Nat → Prop} {Φf : St → Nat → Prop}, rec st p1 Φ Φf → Ct θ κ.2.1 yX0_readsNode (ws_ yX0_readsNode cX0_readsNode 3 (some (Jvm.ClassFile.FieldType.object "SecretsWorth$Node"))) d [.ref (ad θ 0), .int p1] st (pN θ 8 Φ, (exF θ Φf))) {d : Nat} (hd : 7 ≤ d) (hdR : dR + 1 ≤ d) (C : Cx θ κ yX0_readsUnder cX0_readsUnder 2 (none : Option Jvm.ClassFile.FieldType) [] d) {Φ : St → Prop} {Φf : St → Nat → Prop} (hn : ∀ st, Φ st → Ph.1 st none) (hf : ∀ st a, a < gBIG → sh st a = 7 → Φf st a → Ph.2 st "SecretsWorth$Fault" (ad θ a)) (st : St) (x1 : Nat) (hs_x1 : sh st x1 = 8) (hb_x1 : x1 < gBIG) (h : w_X0_readsUnder_b101 rec Φ Φf st x1) : X θ κ Ph st 101 [(0, .ref (ad θ 0)), (1, .ref (ad θ x1))] [] := by
  unfold w_X0_readsUnder_b101 at h
  refine X_aload_n C dX0_readsUnder_101 rfl 0 rfl (isRV_r _) ?_
  refine X_aload_n C dX0_readsUnder_102 rfl 0 rfl (isRV_r _) ?_
  refine X_getS (ci := 0) (j := 38) (q := (RX0, TX0, 49)) C rfl (by decide) q298 rfl dX0_readsUnder_103 (LX_S hX (k := 0) rfl) (v := .int (sI st 0 38)) rfl ?_
  refine X_bipush (v := 93) C dX0_readsUnder_106 rfl ?_
  refine X_icmp_ne (tgt := 123) C dX0_readsUnder_108 (by decide) (fun c84 => ?_) (fun c84 => ?_)
  · have h := h.1 c84
    refine X_sub [0] (lo2 := [(0, _)]) rfl ?_
    exact t_X0_readsUnder_b123 hX hrec hd hdR C hn hf st h
  · have h := h.2 c84
    refine X_aload_n C dX0_readsUnder_111 rfl 0 rfl (isRV_r _) ?_
    refine X_aload_n C dX0_readsUnder_112 rfl 1 rfl (isRV_r _) ?_
    refine X_callVS (ci := 0) (q := (RX0, TX0, 49)) (As := [_]) (rest := [_]) C rfl (LX_S hX (k := 0) rfl) q1291 q1293 qs49 q132 q1294 ⟨rfl, nm_X0_isSplit⟩ rfl dX0_readsUnder_113 (m_X0_isSplit (Cx_l C) hX (d := d - 1) (by omega) st x1 hs_x1 hb_x1 h) (by omega) (by decide) (Nat.le_of_ble_eq_true rfl) (fun s104 w105 hE106 hP107 => ?_) (fun s110 E108 q109 hE106 hP107 => ?_)
    rotate_left
    · exact False.elim hP107
    obtain ⟨r103, rfl, h⟩ := hP107
    refine X_tls ?_
    have hs_x1 := Ext_sh hE106 hs_x1 (by decide)
    refine X_if_eq (tgt := 123) C dX0_readsUnder_116 (by decide) (fun c111 => ?_) (fun c111 => ?_)
    · have h := h.1 c111
      refine X_sub [0] (lo2 := [(0, _)]) rfl ?_
      exact t_X0_readsUnder_b123 hX hrec hd hdR C hn hf s104 h
    · have h := h.2 c111
      refine X_iconst (v := 1) C dX0_readsUnder_119 rfl ?_
      refine X_goto (tgt := 124) C dX0_readsUnder_120 (by decide) ?_
      refine X_sub [0] (lo2 := [(0, _)]) rfl ?_
      exact t_X0_readsUnder_b124 hX hrec hd hdR C hn hf s104 1 h
def w_X0_readsUnder_b14 (rec : St → Int32 → (St → Nat → Prop) → (St → Nat → Prop) → Prop) (Φ : St → Prop) (Φf : St → Nat → Prop) (st : St) (x1 : Nat) (z0 : Int32) : Prop := w_X0_wants st z0 (fun (s3 : St) => ∀ s10, s10 = putI s3 0 40 ((sI s3 0 40) + 1) → w_X0_next s10 (fun (s13 : St) => rec s13 (-1) (fun (s21 : St) (r20 : Nat) => w_X7_add s21 x1 r20 (fun (s31 : St) => w_X0_readsUnder_l40 rec Φ Φf (fun (s83 : St) (x1 : Nat) => w_X0_readsUnder_b101 rec Φ Φf s83 x1) gFU s31 x1)) Φf) Φf) Φf
theorem t_X0_readsUnder_b14 {θ : Th} {κ : Kx} {Ph : Ph} (hX : LX θ) {rec : St → Int32 → (St → Nat → Prop) → (St → Nat → Prop) → Prop} {dR : Nat} (hrec : ∀ {d : Nat}, dR ≤ d → ∀ (st : St) (p1 : Int32), ∀ {Φ : St → Nat → Prop} {Φf : St → Nat → Prop}, rec st p1 Φ Φf → Ct θ κ.2.1 yX0_readsNode (ws_ yX0_readsNode cX0_readsNode 3 (some (Jvm.ClassFile.FieldType.object "SecretsWorth$Node"))) d [.ref (ad θ 0), .int p1] st (pN θ 8 Φ, (exF θ Φf))) {d : Nat} (hd : 7 ≤ d) (hdR : dR + 1 ≤ d) (C : Cx θ κ yX0_readsUnder cX0_readsUnder 2 (none : Option Jvm.ClassFile.FieldType) [] d) {Φ : St → Prop} {Φf : St → Nat → Prop} (hn : ∀ st, Φ st → Ph.1 st none) (hf : ∀ st a, a < gBIG → sh st a = 7 → Φf st a → Ph.2 st "SecretsWorth$Fault" (ad θ a)) (st : St) (x1 : Nat) (z0 : Int32) (hs_x1 : sh st x1 = 8) (hb_x1 : x1 < gBIG) (h : w_X0_readsUnder_b14 rec Φ Φf st x1 z0) : X θ κ Ph st 14 [(0, .ref (ad θ 0)), (1, .ref (ad θ x1))] [.int z0, .ref (ad θ 0)] := by
  unfold w_X0_readsUnder_b14 at h
  refine X_callVS (ci := 0) (q := (RX0, TX0, 49)) (As := [_]) (rest := []) C rfl (LX_S hX (k := 0) rfl) q1144 q1146 qs42 q132 q1147 ⟨rfl, nm_X0_wants⟩ rfl dX0_readsUnder_14 (m_X0_wants (Cx_l C) hX (d := d - 1) (by omega) st z0 h) (by omega) (by decide) (Nat.le_of_ble_eq_true rfl) (fun s3 w4 hE5 hP6 => ?_) (fun s9 E7 q8 hE5 hP6 => ?_)
  rotate_left
  · rcases hP6 with ⟨rfl, a_, rfl, hb_, hs_, h⟩
    exact XT_out C rfl (hf s9 a_ hb_ hs_ h)
  obtain ⟨rfl, h⟩ := hP6
  refine X_tln ?_
  have hs_x1 := Ext_sh hE5 hs_x1 (by decide)
  refine X_aload_n C dX0_readsUnder_17 rfl 0 rfl (isRV_r _) ?_
  refine X_dup C dX0_readsUnder_18 rfl ?_
  refine X_getS (ci := 0) (j := 40) (q := (RX0, TX0, 49)) C rfl (by decide) q300 rfl dX0_readsUnder_19 (LX_S hX (k := 0) rfl) (v := .int (sI s3 0 40)) rfl ?_
  refine X_iconst (v := 1) C dX0_readsUnder_22 rfl ?_
  refine X_iadd C dX0_readsUnder_23 ?_
  refine X_putSI (ci := 0) (j := 40) (q := (RX0, TX0, 49)) C rfl (by decide) q300 rfl rfl dX0_readsUnder_24 (LX_S hX (k := 0) rfl) rfl rfl rfl ?_
  refine X_nm (fun s10 e11 => ?_)
  have h := h s10 e11
  have hs_x1 : sh s10 x1 = 8 := by rw [e11]; exact hs_x1
  refine X_aload_n C dX0_readsUnder_27 rfl 0 rfl (isRV_r _) ?_
  refine X_callVS (ci := 0) (q := (RX0, TX0, 49)) (As := []) (rest := []) C rfl (LX_S hX (k := 0) rfl) q950 q952 qs39 q132 q953 ⟨rfl, nm_X0_next⟩ rfl dX0_readsUnder_28 (m_X0_next (Cx_l C) hX (d := d - 1) (by omega) s10 h) (by omega) (by decide) (Nat.le_of_ble_eq_true rfl) (fun s13 w14 hE15 hP16 => ?_) (fun s19 E17 q18 hE15 hP16 => ?_)
  rotate_left
  · rcases hP16 with ⟨rfl, a_, rfl, hb_, hs_, h⟩
    exact XT_out C rfl (hf s19 a_ hb_ hs_ h)
  obtain ⟨rfl, h⟩ := hP16
  refine X_tln ?_
  have hs_x1 := Ext_sh hE15 hs_x1 (by decide)
  refine X_aload_n C dX0_readsUnder_31 rfl 1 rfl (isRV_r _) ?_
  refine X_aload_n C dX0_readsUnder_32 rfl 0 rfl (isRV_r _) ?_
  refine X_iconst (v := (-1)) C dX0_readsUnder_33 rfl ?_
  refine X_callVS (ci := 0) (q := (RX0, TX0, 49)) (As := [_]) (rest := [_]) C rfl (LX_S hX (k := 0) rfl) q1253 q1255 qs47 q132 q1256 ⟨rfl, nm_X0_readsNode⟩ rfl dX0_readsUnder_34 (hrec (d := d - 1) (by omega) s13 (-1) h) (by omega) (by decide) (Nat.le_of_ble_eq_true rfl) (fun s21 w22 hE23 hP24 => ?_) (fun s27 E25 q26 hE23 hP24 => ?_)
  rotate_left
  · rcases hP24 with ⟨rfl, a_, rfl, hb_, hs_, h⟩
    exact XT_out C rfl (hf s27 a_ hb_ hs_ h)
  obtain ⟨r20, rfl, hb28, hs29, h⟩ := hP24
  refine X_tls ?_
  have hs_x1 := Ext_sh hE23 hs_x1 (by decide)
  refine X_callV (ci := 7) (q := (RX7, TX7, 4)) (As := [_]) (rest := []) C rfl hs_x1 q1287 q1288 q1289 q158 q1290 ⟨rfl, nm_X7_add⟩ rfl dX0_readsUnder_37 (m_X7_add (Cx_l C) hX (d := d - 1) (by omega) s21 x1 r20 hs_x1 hb_x1 hs29 hb28 h) (by omega) (by decide) (Nat.le_of_ble_eq_true rfl) (fun s31 w32 hE33 hP34 => ?_) (fun s37 E35 q36 hE33 hP34 => ?_)
  rotate_left
  · exact False.elim hP34
  obtain ⟨rfl, h⟩ := hP34
  refine X_tln ?_
  have hs_x1 := Ext_sh hE33 hs_x1 (by decide)
  have hs29 := Ext_sh hE33 hs29 (by decide)
  refine t_X0_readsUnder_l40 hX hrec hd hdR C hn hf ?_ gFU s31 x1 hs_x1 hb_x1 h
  · intro s83 x1 hs_x1 hb_x1 h
    exact t_X0_readsUnder_b101 hX hrec hd hdR C hn hf s83 x1 hs_x1 hb_x1 h
def w_X0_readsUnder (rec : St → Int32 → (St → Nat → Prop) → (St → Nat → Prop) → Prop) (st : St) (p1 : Nat) (Φ : St → Prop) (Φf : St → Nat → Prop) : Prop := ((5 ≤ (sI st 0 40)) → w_X0_readsUnder_b14 rec Φ Φf st p1 0) ∧ ((¬ 5 ≤ (sI st 0 40)) → w_X0_readsUnder_b14 rec Φ Φf st p1 1)
theorem e_X0_readsUnder : plainFor yX0_readsUnder = true := plainFor_of_name (by decide +kernel)
theorem m_X0_readsUnder {θ : Th} {l : Launch} (hl0 : l.stackTraces = false) (hX : LX θ) {rec : St → Int32 → (St → Nat → Prop) → (St → Nat → Prop) → Prop} {dR : Nat} (hrec : ∀ {d : Nat}, dR ≤ d → ∀ (st : St) (p1 : Int32), ∀ {Φ : St → Nat → Prop} {Φf : St → Nat → Prop}, rec st p1 Φ Φf → Ct θ l yX0_readsNode (ws_ yX0_readsNode cX0_readsNode 3 (some (Jvm.ClassFile.FieldType.object "SecretsWorth$Node"))) d [.ref (ad θ 0), .int p1] st (pN θ 8 Φ, (exF θ Φf))) {d : Nat} (hd : 7 ≤ d) (hdR : dR + 1 ≤ d) (st : St) (p1 : Nat) (hs_p1 : sh st p1 = 8) (hb_p1 : p1 < gBIG) {Φ : St → Prop} {Φf : St → Nat → Prop} (h : w_X0_readsUnder rec st p1 Φ Φf) : Ct θ l yX0_readsUnder (ws_ yX0_readsUnder cX0_readsUnder 2 (none : Option Jvm.ClassFile.FieldType)) d [.ref (ad θ 0), .ref (ad θ p1)] st (pV Φ, (exF θ Φf)) := by
  refine Ct_entry hl0 e_X0_readsUnder (Nat.le_of_ble_eq_true rfl) (fun κ hκ _ C => ?_)
  subst hκ
  have hn : ∀ st, Φ st → ((pV Φ, (exF θ Φf)) : Ph).1 st none := fun st q => ⟨rfl, q⟩
  have hf : ∀ st a, a < gBIG → sh st a = 7 → Φf st a → ((pV Φ, (exF θ Φf)) : Ph).2 st "SecretsWorth$Fault" (ad θ a) := fun st a q1 q2 q => ⟨rfl, a, rfl, q1, q2, q⟩
  change X _ _ _ _ _ [(0, .ref (ad θ 0)), (1, .ref (ad θ p1))] _
  unfold w_X0_readsUnder at h
  refine X_aload_n C dX0_readsUnder_0 rfl 0 rfl (isRV_r _) ?_
  refine X_aload_n C dX0_readsUnder_1 rfl 0 rfl (isRV_r _) ?_
  refine X_getS (ci := 0) (j := 40) (q := (RX0, TX0, 49)) C rfl (by decide) q300 rfl dX0_readsUnder_2 (LX_S hX (k := 0) rfl) (v := .int (sI st 0 40)) rfl ?_
  refine X_iconst (v := 5) C dX0_readsUnder_5 rfl ?_
  refine X_icmp_ge (tgt := 13) C dX0_readsUnder_6 (by decide) (fun c1 => ?_) (fun c1 => ?_)
  · have h := h.1 c1
    refine X_iconst (v := 0) C dX0_readsUnder_13 rfl ?_
    exact t_X0_readsUnder_b14 hX hrec hd hdR C hn hf st p1 0 hs_p1 hb_p1 h
  · have h := h.2 c1
    refine X_iconst (v := 1) C dX0_readsUnder_9 rfl ?_
    refine X_goto (tgt := 14) C dX0_readsUnder_10 (by decide) ?_
    exact t_X0_readsUnder_b14 hX hrec hd hdR C hn hf st p1 1 hs_p1 hb_p1 h

def w_X0_readsNode_b80 (rec : St → Int32 → (St → Nat → Prop) → (St → Nat → Prop) → Prop) (Φ : St → Nat → Prop) (Φf : St → Nat → Prop) (st : St) (x2 : Nat) : Prop := (((sI st 0 38) ≠ 91) → Φ st x2) ∧ (((sI st 0 38) = 91) → w_X0_readsUnder rec st x2 (fun (s51 : St) => Φ s51 x2) Φf)
theorem t_X0_readsNode_b80 {θ : Th} {κ : Kx} {Ph : Ph} (hX : LX θ) {rec : St → Int32 → (St → Nat → Prop) → (St → Nat → Prop) → Prop} {dR : Nat} (hrec : ∀ {d : Nat}, dR ≤ d → ∀ (st : St) (p1 : Int32), ∀ {Φ : St → Nat → Prop} {Φf : St → Nat → Prop}, rec st p1 Φ Φf → Ct θ κ.2.1 yX0_readsNode (ws_ yX0_readsNode cX0_readsNode 3 (some (Jvm.ClassFile.FieldType.object "SecretsWorth$Node"))) d [.ref (ad θ 0), .int p1] st (pN θ 8 Φ, (exF θ Φf))) {d : Nat} (hd : 8 ≤ d) (hdR : dR + 2 ≤ d) (C : Cx θ κ yX0_readsNode cX0_readsNode 3 (some (Jvm.ClassFile.FieldType.object "SecretsWorth$Node")) [] d) {Φ : St → Nat → Prop} {Φf : St → Nat → Prop} (hn : ∀ st r, r < gBIG → sh st r = 8 → Φ st r → Ph.1 st (some (.ref (ad θ r)))) (hf : ∀ st a, a < gBIG → sh st a = 7 → Φf st a → Ph.2 st "SecretsWorth$Fault" (ad θ a)) (st : St) (x2 : Nat) (hs_x2 : sh st x2 = 8) (hb_x2 : x2 < gBIG) (h : w_X0_readsNode_b80 rec Φ Φf st x2) : X θ κ Ph st 80 [(0, .ref (ad θ 0)), (2, .ref (ad θ x2))] [] := by
  unfold w_X0_readsNode_b80 at h
  refine X_aload_n C dX0_readsNode_80 rfl 0 rfl (isRV_r _) ?_
  refine X_getS (ci := 0) (j := 38) (q := (RX0, TX0, 49)) C rfl (by decide) q298 rfl dX0_readsNode_81 (LX_S hX (k := 0) rfl) (v := .int (sI st 0 38)) rfl ?_
  refine X_bipush (v := 91) C dX0_readsNode_84 rfl ?_
  refine X_icmp_ne (tgt := 94) C dX0_readsNode_86 (by decide) (fun c49 => ?_) (fun c49 => ?_)
  · have h := h.1 c49
    refine X_aload_n C dX0_readsNode_94 rfl 1 rfl (isRV_r _) ?_
    exact X_aret C rfl (Or.inl ⟨_, rfl⟩) (isRV_r _) dX0_readsNode_95 (hn st _ hb_x2 hs_x2 h)
  · have h := h.2 c49
    refine X_aload_n C dX0_readsNode_89 rfl 0 rfl (isRV_r _) ?_
    refine X_aload_n C dX0_readsNode_90 rfl 1 rfl (isRV_r _) ?_
    refine X_callVS (ci := 0) (q := (RX0, TX0, 49)) (As := [_]) (rest := []) C rfl (LX_S hX (k := 0) rfl) q1283 q1285 qs48 q132 q1286 ⟨rfl, nm_X0_readsUnder⟩ rfl dX0_readsNode_91 (m_X0_readsUnder (Cx_l C) hX hrec (d := d - 1) (by omega) (by omega) st x2 hs_x2 hb_x2 h) (by omega) (by decide) (Nat.le_of_ble_eq_true rfl) (fun s51 w52 hE53 hP54 => ?_) (fun s57 E55 q56 hE53 hP54 => ?_)
    rotate_left
    · rcases hP54 with ⟨rfl, a_, rfl, hb_, hs_, h⟩
      exact XT_out C rfl (hf s57 a_ hb_ hs_ h)
    obtain ⟨rfl, h⟩ := hP54
    refine X_tln ?_
    have hs_x2 := Ext_sh hE53 hs_x2 (by decide)
    refine X_aload_n C dX0_readsNode_94 rfl 1 rfl (isRV_r _) ?_
    exact X_aret C rfl (Or.inl ⟨_, rfl⟩) (isRV_r _) dX0_readsNode_95 (hn s51 _ hb_x2 hs_x2 h)
def w_X0_readsNode_b15 (rec : St → Int32 → (St → Nat → Prop) → (St → Nat → Prop) → Prop) (Φ : St → Nat → Prop) (Φf : St → Nat → Prop) (st : St) (x1 : Int32) (z0 : Int32) : Prop := w_X0_wants st z0 (fun (s3 : St) => ∀ s10, s10 = putI s3 0 39 ((sI s3 0 39) + 1) → sN s10 + 1 ≤ gCAP ∧ sS s10 + 4 ≤ gCAPS ∧ ∀ s14, s14 = mk s10 8 4 → w_X0_numberIn s14 (x1 + 1) ((sI s14 64 9) - 1) (fun (s20 : St) (r19 : Int32) => w_X7_init s20 (sN s10) r19 (fun (s28 : St) => ∃ r37, (sR s28 0 36) = some r37 ∧ sh s28 r37 = 10 ∧ w_J6_equals s28 r37 (gBIG + 2 * 9) (fun (r40 : Int32) => ((r40 = 0) → w_X0_readsNode_b80 rec Φ Φf s28 (sN s10)) ∧ ((¬ r40 = 0) → w_X0_next s28 (fun (s59 : St) => w_X0_numberIn s59 1 99 (fun (s67 : St) (r66 : Int32) => ∀ s74, s74 = putI s67 (sN s10) 1 r66 → w_X0_readsNode_b80 rec Φ Φf s74 (sN s10)) Φf) Φf)))) Φf) Φf
theorem t_X0_readsNode_b15 {θ : Th} {κ : Kx} {Ph : Ph} (hX : LX θ) {rec : St → Int32 → (St → Nat → Prop) → (St → Nat → Prop) → Prop} {dR : Nat} (hrec : ∀ {d : Nat}, dR ≤ d → ∀ (st : St) (p1 : Int32), ∀ {Φ : St → Nat → Prop} {Φf : St → Nat → Prop}, rec st p1 Φ Φf → Ct θ κ.2.1 yX0_readsNode (ws_ yX0_readsNode cX0_readsNode 3 (some (Jvm.ClassFile.FieldType.object "SecretsWorth$Node"))) d [.ref (ad θ 0), .int p1] st (pN θ 8 Φ, (exF θ Φf))) {d : Nat} (hd : 8 ≤ d) (hdR : dR + 2 ≤ d) (C : Cx θ κ yX0_readsNode cX0_readsNode 3 (some (Jvm.ClassFile.FieldType.object "SecretsWorth$Node")) [] d) {Φ : St → Nat → Prop} {Φf : St → Nat → Prop} (hn : ∀ st r, r < gBIG → sh st r = 8 → Φ st r → Ph.1 st (some (.ref (ad θ r)))) (hf : ∀ st a, a < gBIG → sh st a = 7 → Φf st a → Ph.2 st "SecretsWorth$Fault" (ad θ a)) (st : St) (x1 : Int32) (z0 : Int32) (h : w_X0_readsNode_b15 rec Φ Φf st x1 z0) : X θ κ Ph st 15 [(0, .ref (ad θ 0)), (1, .int x1)] [.int z0, .ref (ad θ 0)] := by
  unfold w_X0_readsNode_b15 at h
  refine X_callVS (ci := 0) (q := (RX0, TX0, 49)) (As := [_]) (rest := []) C rfl (LX_S hX (k := 0) rfl) q1144 q1146 qs42 q132 q1147 ⟨rfl, nm_X0_wants⟩ rfl dX0_readsNode_15 (m_X0_wants (Cx_l C) hX (d := d - 1) (by omega) st z0 h) (by omega) (by decide) (Nat.le_of_ble_eq_true rfl) (fun s3 w4 hE5 hP6 => ?_) (fun s9 E7 q8 hE5 hP6 => ?_)
  rotate_left
  · rcases hP6 with ⟨rfl, a_, rfl, hb_, hs_, h⟩
    exact XT_out C rfl (hf s9 a_ hb_ hs_ h)
  obtain ⟨rfl, h⟩ := hP6
  refine X_tln ?_
  refine X_aload_n C dX0_readsNode_18 rfl 0 rfl (isRV_r _) ?_
  refine X_dup C dX0_readsNode_19 rfl ?_
  refine X_getS (ci := 0) (j := 39) (q := (RX0, TX0, 49)) C rfl (by decide) q299 rfl dX0_readsNode_20 (LX_S hX (k := 0) rfl) (v := .int (sI s3 0 39)) rfl ?_
  refine X_iconst (v := 1) C dX0_readsNode_23 rfl ?_
  refine X_iadd C dX0_readsNode_24 ?_
  refine X_putSI (ci := 0) (j := 39) (q := (RX0, TX0, 49)) C rfl (by decide) q299 rfl rfl dX0_readsNode_25 (LX_S hX (k := 0) rfl) rfl rfl rfl ?_
  refine X_nm (fun s10 e11 => ?_)
  have h := h s10 e11
  have g12 := h.1
  have h := h.2
  have g13 := h.1
  have h := h.2
  refine X_new (ci := 7) (q := (RX7, TX7, 4)) C rfl q1257 q1258 q158 g12 g13 dX0_readsNode_28 (fun hE16 => ?_)
  refine X_nm (fun s14 e15 => ?_)
  have h := h s14 e15
  rw [← e15] at hE16
  have hs17 : sh s14 (sN s10) = 8 := by rw [e15]; exact sh_mk
  have hb18 := nb_N g12
  refine X_dup C dX0_readsNode_31 rfl ?_
  refine X_aload_n C dX0_readsNode_32 rfl 0 rfl (isRV_r _) ?_
  refine X_iload_n C dX0_readsNode_33 rfl 1 rfl ?_
  refine X_iconst (v := 1) C dX0_readsNode_34 rfl ?_
  refine X_iadd C dX0_readsNode_35 ?_
  refine X_aload_n C dX0_readsNode_36 rfl 0 rfl (isRV_r _) ?_
  refine X_getF (ci := 0) (j := 3) (q := (RX0, TX0, 49)) C rfl (by decide) q263 rfl dX0_readsNode_37 (b := 64) (LX_S hX (k := 0) rfl) (LX_F hX (k := 0) (j := 3) rfl) rfl ?_
  refine X_getNS (ci := 1) (j := 9) (q := (RX1, TX1, 10)) C rfl (by decide) q207 rfl dX0_readsNode_40 (LH_0 (LX_H64 hX)) (v := .int (sI s14 64 9)) rfl ?_
  refine X_iconst (v := 1) C dX0_readsNode_43 rfl ?_
  refine X_isub C dX0_readsNode_44 ?_
  refine X_callVS (ci := 0) (q := (RX0, TX0, 49)) (As := [_, _]) (rest := [_, _]) C rfl (LX_S hX (k := 0) rfl) q1241 q1243 qs44 q132 q1244 ⟨rfl, nm_X0_numberIn⟩ rfl dX0_readsNode_45 (m_X0_numberIn (Cx_l C) hX (d := d - 1) (by omega) s14 (x1 + 1) ((sI s14 64 9) - 1) h) (by omega) (by decide) (Nat.le_of_ble_eq_true rfl) (fun s20 w21 hE22 hP23 => ?_) (fun s26 E24 q25 hE22 hP23 => ?_)
  rotate_left
  · rcases hP23 with ⟨rfl, a_, rfl, hb_, hs_, h⟩
    exact XT_out C rfl (hf s26 a_ hb_ hs_ h)
  obtain ⟨r19, rfl, h⟩ := hP23
  refine X_tls ?_
  have hs17 := Ext_sh hE22 hs17 (by decide)
  refine X_callI (As := [_]) (rest := [_]) C q1259 q1260 q158 q1261 rfl nm_X7_init rfl dX0_readsNode_48 (m_X7_init (Cx_l C) hX (d := d - 1) (by omega) s20 (sN s10) r19 hs17 hb18 h) (by omega) (by decide) (Nat.le_of_ble_eq_true rfl) (fun s28 w29 hE30 hP31 => ?_) (fun s34 E32 q33 hE30 hP31 => ?_)
  rotate_left
  · exact False.elim hP31
  obtain ⟨rfl, h⟩ := hP31
  refine X_tln ?_
  have hs17 := Ext_sh hE30 hs17 (by decide)
  refine X_astore_n C dX0_readsNode_51 rfl (isRV_r _) (lo2 := [(2, _), (0, _), (1, _)]) (by decide) rfl ?_
  refine X_aload_n C dX0_readsNode_52 rfl 1 rfl (isRV_r _) ?_
  refine X_getS (ci := 0) (j := 36) (q := (RX0, TX0, 49)) C rfl (by decide) q296 rfl dX0_readsNode_53 (LX_S hX (k := 0) rfl) (v := rv θ (sR s28 0 36)) rfl ?_
  refine X_ldcws (tx := "stay") (i := 9) C (by decide +kernel) dX0_readsNode_56 ?_
  refine X_con (fun hc35 => ?_)
  have hs36 : sh s28 (gBIG + 2 * 9) = 10 := con_str hc35 (by decide)
  obtain ⟨r37, q38, hs39, h⟩ := h
  rw [q38]
  refine X_callV (ci := 9) (q := (RJ6, TJ6, 4)) (As := [_]) (rest := []) C rfl hs39 q1227 q1228 q1229 q144 q1230 ⟨rfl, nm_J6_equals⟩ rfl dX0_readsNode_59 (m_J6_equals (Cx_l C) hX (d := d - 1) (by omega) s28 r37 (gBIG + 2 * 9) hs39 hs36 h) (by omega) (by decide) (Nat.le_of_ble_eq_true rfl) (fun s46 w41 hE42 hP43 => ?_) (fun s47 E44 q45 hE42 hP43 => ?_)
  rotate_left
  · exact False.elim hP43
  obtain ⟨r40, rfl, rfl, h⟩ := hP43
  refine X_tls ?_
  refine X_if_eq (tgt := 80) C dX0_readsNode_62 (by decide) (fun c48 => ?_) (fun c48 => ?_)
  · have h := h.1 c48
    refine X_sub [1, 0] (lo2 := [(0, _), (2, _)]) rfl ?_
    exact t_X0_readsNode_b80 hX hrec hd hdR C hn hf s28 (sN s10) hs17 hb18 h
  · have h := h.2 c48
    refine X_aload_n C dX0_readsNode_65 rfl 1 rfl (isRV_r _) ?_
    refine X_callVS (ci := 0) (q := (RX0, TX0, 49)) (As := []) (rest := []) C rfl (LX_S hX (k := 0) rfl) q950 q952 qs39 q132 q953 ⟨rfl, nm_X0_next⟩ rfl dX0_readsNode_66 (m_X0_next (Cx_l C) hX (d := d - 1) (by omega) s28 h) (by omega) (by decide) (Nat.le_of_ble_eq_true rfl) (fun s59 w60 hE61 hP62 => ?_) (fun s65 E63 q64 hE61 hP62 => ?_)
    rotate_left
    · rcases hP62 with ⟨rfl, a_, rfl, hb_, hs_, h⟩
      exact XT_out C rfl (hf s65 a_ hb_ hs_ h)
    obtain ⟨rfl, h⟩ := hP62
    refine X_tln ?_
    have hs17 := Ext_sh hE61 hs17 (by decide)
    have hs36 := Ext_sh hE61 hs36 (by decide)
    have hs39 := Ext_sh hE61 hs39 (by decide)
    refine X_aload_n C dX0_readsNode_69 rfl 0 rfl (isRV_r _) ?_
    refine X_aload_n C dX0_readsNode_70 rfl 1 rfl (isRV_r _) ?_
    refine X_iconst (v := 1) C dX0_readsNode_71 rfl ?_
    refine X_bipush (v := 99) C dX0_readsNode_72 rfl ?_
    refine X_callVS (ci := 0) (q := (RX0, TX0, 49)) (As := [_, _]) (rest := [_]) C rfl (LX_S hX (k := 0) rfl) q1241 q1243 qs44 q132 q1244 ⟨rfl, nm_X0_numberIn⟩ rfl dX0_readsNode_74 (m_X0_numberIn (Cx_l C) hX (d := d - 1) (by omega) s59 1 99 h) (by omega) (by decide) (Nat.le_of_ble_eq_true rfl) (fun s67 w68 hE69 hP70 => ?_) (fun s73 E71 q72 hE69 hP70 => ?_)
    rotate_left
    · rcases hP70 with ⟨rfl, a_, rfl, hb_, hs_, h⟩
      exact XT_out C rfl (hf s73 a_ hb_ hs_ h)
    obtain ⟨r66, rfl, h⟩ := hP70
    refine X_tls ?_
    have hs17 := Ext_sh hE69 hs17 (by decide)
    have hs36 := Ext_sh hE69 hs36 (by decide)
    have hs39 := Ext_sh hE69 hs39 (by decide)
    refine X_putI (ci := 7) (j := 1) (q := (RX7, TX7, 4)) C rfl (by decide) q1268 rfl rfl dX0_readsNode_77 hb18 hs17 rfl rfl rfl ?_
    refine X_nm (fun s74 e75 => ?_)
    have h := h s74 e75
    have hs17 : sh s74 (sN s10) = 8 := by rw [e75]; exact hs17
    have hs36 : sh s74 (gBIG + 2 * 9) = 10 := by rw [e75]; exact hs36
    have hs39 : sh s74 r37 = 10 := by rw [e75]; exact hs39
    refine X_sub [1, 0] (lo2 := [(0, _), (2, _)]) rfl ?_
    exact t_X0_readsNode_b80 hX hrec hd hdR C hn hf s74 (sN s10) hs17 hb18 h
def w_X0_readsNode (rec : St → Int32 → (St → Nat → Prop) → (St → Nat → Prop) → Prop) (st : St) (p1 : Int32) (Φ : St → Nat → Prop) (Φf : St → Nat → Prop) : Prop := ((20 ≤ (sI st 0 39)) → w_X0_readsNode_b15 rec Φ Φf st p1 0) ∧ ((¬ 20 ≤ (sI st 0 39)) → w_X0_readsNode_b15 rec Φ Φf st p1 1)
theorem e_X0_readsNode : plainFor yX0_readsNode = true := plainFor_of_name (by decide +kernel)
theorem m_X0_readsNode {θ : Th} {l : Launch} (hl0 : l.stackTraces = false) (hX : LX θ) {rec : St → Int32 → (St → Nat → Prop) → (St → Nat → Prop) → Prop} {dR : Nat} (hrec : ∀ {d : Nat}, dR ≤ d → ∀ (st : St) (p1 : Int32), ∀ {Φ : St → Nat → Prop} {Φf : St → Nat → Prop}, rec st p1 Φ Φf → Ct θ l yX0_readsNode (ws_ yX0_readsNode cX0_readsNode 3 (some (Jvm.ClassFile.FieldType.object "SecretsWorth$Node"))) d [.ref (ad θ 0), .int p1] st (pN θ 8 Φ, (exF θ Φf))) {d : Nat} (hd : 8 ≤ d) (hdR : dR + 2 ≤ d) (st : St) (p1 : Int32) {Φ : St → Nat → Prop} {Φf : St → Nat → Prop} (h : w_X0_readsNode rec st p1 Φ Φf) : Ct θ l yX0_readsNode (ws_ yX0_readsNode cX0_readsNode 3 (some (Jvm.ClassFile.FieldType.object "SecretsWorth$Node"))) d [.ref (ad θ 0), .int p1] st (pN θ 8 Φ, (exF θ Φf)) := by
  refine Ct_entry hl0 e_X0_readsNode (Nat.le_of_ble_eq_true rfl) (fun κ hκ _ C => ?_)
  subst hκ
  have hn : ∀ st r, r < gBIG → sh st r = 8 → Φ st r → ((pN θ 8 Φ, (exF θ Φf)) : Ph).1 st (some (.ref (ad θ r))) := fun st r q1 q2 q => ⟨r, rfl, q1, q2, q⟩
  have hf : ∀ st a, a < gBIG → sh st a = 7 → Φf st a → ((pN θ 8 Φ, (exF θ Φf)) : Ph).2 st "SecretsWorth$Fault" (ad θ a) := fun st a q1 q2 q => ⟨rfl, a, rfl, q1, q2, q⟩
  change X _ _ _ _ _ [(0, .ref (ad θ 0)), (1, .int p1)] _
  unfold w_X0_readsNode at h
  refine X_aload_n C dX0_readsNode_0 rfl 0 rfl (isRV_r _) ?_
  refine X_aload_n C dX0_readsNode_1 rfl 0 rfl (isRV_r _) ?_
  refine X_getS (ci := 0) (j := 39) (q := (RX0, TX0, 49)) C rfl (by decide) q299 rfl dX0_readsNode_2 (LX_S hX (k := 0) rfl) (v := .int (sI st 0 39)) rfl ?_
  refine X_bipush (v := 20) C dX0_readsNode_5 rfl ?_
  refine X_icmp_ge (tgt := 14) C dX0_readsNode_7 (by decide) (fun c1 => ?_) (fun c1 => ?_)
  · have h := h.1 c1
    refine X_iconst (v := 0) C dX0_readsNode_14 rfl ?_
    exact t_X0_readsNode_b15 hX hrec hd hdR C hn hf st p1 0 h
  · have h := h.2 c1
    refine X_iconst (v := 1) C dX0_readsNode_10 rfl ?_
    refine X_goto (tgt := 15) C dX0_readsNode_11 (by decide) ?_
    exact t_X0_readsNode_b15 hX hrec hd hdR C hn hf st p1 1 h

def w_X0_readsNode_f : Nat → St → Int32 → (St → Nat → Prop) → (St → Nat → Prop) → Prop
  | 0, _, _, _, _ => False
  | n + 1, st, p1, Φ, Φf => w_X0_readsNode (w_X0_readsNode_f n) st p1 Φ Φf
theorem m_X0_readsNode_f {θ : Th} {l : Launch} (hl0 : l.stackTraces = false) (hX : LX θ) : ∀ (n : Nat) {d : Nat}, 8 + 2 * n ≤ d → ∀ (st : St) (p1 : Int32), ∀ {Φ : St → Nat → Prop} {Φf : St → Nat → Prop}, w_X0_readsNode_f n st p1 Φ Φf → Ct θ l yX0_readsNode (ws_ yX0_readsNode cX0_readsNode 3 (some (Jvm.ClassFile.FieldType.object "SecretsWorth$Node"))) d [.ref (ad θ 0), .int p1] st (pN θ 8 Φ, (exF θ Φf)) := by
  intro n
  induction n with
  | zero => intro d hd st p1 Φ Φf h; exact h.elim
  | succ n ih =>
    intro d hd st p1 Φ Φf h
    exact m_X0_readsNode hl0 hX (dR := 8 + 2 * n) ih (by omega) (by omega) st p1 h

theorem nm_X0_statement : yX0_statement.cls ≠ "java/lang/invoke/MethodHandle" ∧ yX0_statement.cls ≠ "java/lang/invoke/VarHandle" ∧ (parseMethodDescriptor yX0_statement.desc).map (fun d => d.parameters.length) = some 0 := by decide +kernel
def w_X0_statement_b171 (Φ : St → Prop) (Φf : St → Nat → Prop) (st : St) (x3 : Int32) : Prop := (x3 = 0 → w_X0_numberIn st 2 3 (fun (s48 : St) (r47 : Int32) => w_X1_states 64 s48 r47 (fun (s56 : St) => ∀ s63, s63 = putI s56 0 41 1 → Φ s63)) Φf) ∧ (x3 = 1 → w_X0_numberIn st 1 4 (fun (s67 : St) (r66 : Int32) => w_X1_parts 64 s67 r66 (fun (s75 : St) => ∀ s82, s82 = putI s75 0 41 1 → Φ s82)) Φf) ∧ (x3 = 2 → w_X0_numberIn st 1 3 (fun (s86 : St) (r85 : Int32) => ∀ s93, s93 = putI s86 64 2 r85 → w_X0_numberIn s93 1 3 (fun (s96 : St) (r95 : Int32) => ∀ s103, s103 = putI s96 64 3 r95 → Φ s103) Φf) Φf) ∧ (x3 = 3 → w_X0_readsGame st (fun (s107 : St) => Φ s107) Φf) ∧ (x3 = 4 → w_X0_numberIn st 0 ((sI st 64 9) - 1) (fun (s116 : St) (r115 : Int32) => ∀ s123, s123 = putI s116 64 4 r115 → Φ s123) Φf) ∧ (x3 = 5 → w_X0_numberIn st 0 ((sI st 64 0) - 1) (fun (s127 : St) (r126 : Int32) => w_X0_signed s127 99 (fun (s135 : St) (r134 : Int32) => vp_in r126 3 ∧ ∀ s143, s143 = putI s135 (64 + 14) (r126.toNatClampNeg) r134 → Φ s143) Φf) Φf) ∧ (x3.toInt < 0 ∨ 5 < x3.toInt → ∀ s146, s146 = putI st 0 39 0 → (w_X0_readsNode_f 8) s146 (-1) (fun (s149 : St) (r148 : Nat) => ∀ s158, s158 = putR s149 64 7 (some r148) → Φ s158) Φf)
theorem t_X0_statement_b171 {θ : Th} {κ : Kx} {Ph : Ph} (hX : LX θ) {d : Nat} (hd : 25 ≤ d) (C : Cx θ κ yX0_statement cX0_statement 5 (none : Option Jvm.ClassFile.FieldType) [] d) {Φ : St → Prop} {Φf : St → Nat → Prop} (hn : ∀ st, Φ st → Ph.1 st none) (hf : ∀ st a, a < gBIG → sh st a = 7 → Φf st a → Ph.2 st "SecretsWorth$Fault" (ad θ a)) (st : St) (x3 : Int32) (h : w_X0_statement_b171 Φ Φf st x3) : X θ κ Ph st 171 [(0, .ref (ad θ 0)), (3, .int x3)] [] := by
  unfold w_X0_statement_b171 at h
  refine X_iload_n C dX0_statement_171 rfl 1 rfl ?_
  by_cases c65 : x3 = 0
  · have h := h.1 c65
    refine X_tableIn (tgt := 212) C dX0_statement_172 (by rw [c65]; decide) (by rw [c65]; decide) (off := 40) (by rw [c65]; rfl) (by decide) ?_
    refine X_aload_n C dX0_statement_212 rfl 0 rfl (isRV_r _) ?_
    refine X_getF (ci := 0) (j := 3) (q := (RX0, TX0, 49)) C rfl (by decide) q263 rfl dX0_statement_213 (b := 64) (LX_S hX (k := 0) rfl) (LX_F hX (k := 0) (j := 3) rfl) rfl ?_
    refine X_aload_n C dX0_statement_216 rfl 0 rfl (isRV_r _) ?_
    refine X_iconst (v := 2) C dX0_statement_217 rfl ?_
    refine X_iconst (v := 3) C dX0_statement_218 rfl ?_
    refine X_callVS (ci := 0) (q := (RX0, TX0, 49)) (As := [_, _]) (rest := [_]) C rfl (LX_S hX (k := 0) rfl) q1241 q1243 qs44 q132 q1244 ⟨rfl, nm_X0_numberIn⟩ rfl dX0_statement_219 (m_X0_numberIn (Cx_l C) hX (d := d - 1) (by omega) st 2 3 h) (by omega) (by decide) (Nat.le_of_ble_eq_true rfl) (fun s48 w49 hE50 hP51 => ?_) (fun s54 E52 q53 hE50 hP51 => ?_)
    rotate_left
    · rcases hP51 with ⟨rfl, a_, rfl, hb_, hs_, h⟩
      exact XT_out C rfl (hf s54 a_ hb_ hs_ h)
    obtain ⟨r47, rfl, h⟩ := hP51
    refine X_tls ?_
    refine X_callVS (ci := 1) (q := (RX1, TX1, 10)) (As := [_]) (rest := []) C rfl (LH_0 (LX_H64 hX)) q508 q509 q510 q133 q511 ⟨rfl, nm_X1_states⟩ rfl dX0_statement_222 (m_X1_states (Cx_l C) (LX_H64 hX) (d := d - 1) (by omega) s48 r47 h) (by omega) (by decide) (Nat.le_of_ble_eq_true rfl) (fun s56 w57 hE58 hP59 => ?_) (fun s62 E60 q61 hE58 hP59 => ?_)
    rotate_left
    · exact False.elim hP59
    obtain ⟨rfl, h⟩ := hP59
    refine X_tln ?_
    refine X_aload_n C dX0_statement_225 rfl 0 rfl (isRV_r _) ?_
    refine X_iconst (v := 1) C dX0_statement_226 rfl ?_
    refine X_putSI (ci := 0) (j := 41) (q := (RX0, TX0, 49)) C rfl (by decide) q301 rfl rfl dX0_statement_227 (LX_S hX (k := 0) rfl) rfl rfl rfl ?_
    refine X_nm (fun s63 e64 => ?_)
    have h := h s63 e64
    refine X_goto (tgt := 366) C dX0_statement_230 (by decide) ?_
    exact X_vret C rfl dX0_statement_366 (hn s63 h)
  have h := h.2
  by_cases c84 : x3 = 1
  · have h := h.1 c84
    refine X_tableIn (tgt := 233) C dX0_statement_172 (by rw [c84]; decide) (by rw [c84]; decide) (off := 61) (by rw [c84]; rfl) (by decide) ?_
    refine X_aload_n C dX0_statement_233 rfl 0 rfl (isRV_r _) ?_
    refine X_getF (ci := 0) (j := 3) (q := (RX0, TX0, 49)) C rfl (by decide) q263 rfl dX0_statement_234 (b := 64) (LX_S hX (k := 0) rfl) (LX_F hX (k := 0) (j := 3) rfl) rfl ?_
    refine X_aload_n C dX0_statement_237 rfl 0 rfl (isRV_r _) ?_
    refine X_iconst (v := 1) C dX0_statement_238 rfl ?_
    refine X_iconst (v := 4) C dX0_statement_239 rfl ?_
    refine X_callVS (ci := 0) (q := (RX0, TX0, 49)) (As := [_, _]) (rest := [_]) C rfl (LX_S hX (k := 0) rfl) q1241 q1243 qs44 q132 q1244 ⟨rfl, nm_X0_numberIn⟩ rfl dX0_statement_240 (m_X0_numberIn (Cx_l C) hX (d := d - 1) (by omega) st 1 4 h) (by omega) (by decide) (Nat.le_of_ble_eq_true rfl) (fun s67 w68 hE69 hP70 => ?_) (fun s73 E71 q72 hE69 hP70 => ?_)
    rotate_left
    · rcases hP70 with ⟨rfl, a_, rfl, hb_, hs_, h⟩
      exact XT_out C rfl (hf s73 a_ hb_ hs_ h)
    obtain ⟨r66, rfl, h⟩ := hP70
    refine X_tls ?_
    refine X_callVS (ci := 1) (q := (RX1, TX1, 10)) (As := [_]) (rest := []) C rfl (LH_0 (LX_H64 hX)) q522 q523 q524 q133 q525 ⟨rfl, nm_X1_parts⟩ rfl dX0_statement_243 (m_X1_parts (Cx_l C) (LX_H64 hX) (d := d - 1) (by omega) s67 r66 h) (by omega) (by decide) (Nat.le_of_ble_eq_true rfl) (fun s75 w76 hE77 hP78 => ?_) (fun s81 E79 q80 hE77 hP78 => ?_)
    rotate_left
    · exact False.elim hP78
    obtain ⟨rfl, h⟩ := hP78
    refine X_tln ?_
    refine X_aload_n C dX0_statement_246 rfl 0 rfl (isRV_r _) ?_
    refine X_iconst (v := 1) C dX0_statement_247 rfl ?_
    refine X_putSI (ci := 0) (j := 41) (q := (RX0, TX0, 49)) C rfl (by decide) q301 rfl rfl dX0_statement_248 (LX_S hX (k := 0) rfl) rfl rfl rfl ?_
    refine X_nm (fun s82 e83 => ?_)
    have h := h s82 e83
    refine X_goto (tgt := 366) C dX0_statement_251 (by decide) ?_
    exact X_vret C rfl dX0_statement_366 (hn s82 h)
  have h := h.2
  by_cases c105 : x3 = 2
  · have h := h.1 c105
    refine X_tableIn (tgt := 254) C dX0_statement_172 (by rw [c105]; decide) (by rw [c105]; decide) (off := 82) (by rw [c105]; rfl) (by decide) ?_
    refine X_aload_n C dX0_statement_254 rfl 0 rfl (isRV_r _) ?_
    refine X_getF (ci := 0) (j := 3) (q := (RX0, TX0, 49)) C rfl (by decide) q263 rfl dX0_statement_255 (b := 64) (LX_S hX (k := 0) rfl) (LX_F hX (k := 0) (j := 3) rfl) rfl ?_
    refine X_aload_n C dX0_statement_258 rfl 0 rfl (isRV_r _) ?_
    refine X_iconst (v := 1) C dX0_statement_259 rfl ?_
    refine X_iconst (v := 3) C dX0_statement_260 rfl ?_
    refine X_callVS (ci := 0) (q := (RX0, TX0, 49)) (As := [_, _]) (rest := [_]) C rfl (LX_S hX (k := 0) rfl) q1241 q1243 qs44 q132 q1244 ⟨rfl, nm_X0_numberIn⟩ rfl dX0_statement_261 (m_X0_numberIn (Cx_l C) hX (d := d - 1) (by omega) st 1 3 h) (by omega) (by decide) (Nat.le_of_ble_eq_true rfl) (fun s86 w87 hE88 hP89 => ?_) (fun s92 E90 q91 hE88 hP89 => ?_)
    rotate_left
    · rcases hP89 with ⟨rfl, a_, rfl, hb_, hs_, h⟩
      exact XT_out C rfl (hf s92 a_ hb_ hs_ h)
    obtain ⟨r85, rfl, h⟩ := hP89
    refine X_tls ?_
    refine X_putNSI (ci := 1) (j := 2) (q := (RX1, TX1, 10)) C rfl (by decide) q193 rfl rfl dX0_statement_264 (LH_0 (LX_H64 hX)) rfl rfl rfl ?_
    refine X_nm (fun s93 e94 => ?_)
    have h := h s93 e94
    refine X_aload_n C dX0_statement_267 rfl 0 rfl (isRV_r _) ?_
    refine X_getF (ci := 0) (j := 3) (q := (RX0, TX0, 49)) C rfl (by decide) q263 rfl dX0_statement_268 (b := 64) (LX_S hX (k := 0) rfl) (LX_F hX (k := 0) (j := 3) rfl) rfl ?_
    refine X_aload_n C dX0_statement_271 rfl 0 rfl (isRV_r _) ?_
    refine X_iconst (v := 1) C dX0_statement_272 rfl ?_
    refine X_iconst (v := 3) C dX0_statement_273 rfl ?_
    refine X_callVS (ci := 0) (q := (RX0, TX0, 49)) (As := [_, _]) (rest := [_]) C rfl (LX_S hX (k := 0) rfl) q1241 q1243 qs44 q132 q1244 ⟨rfl, nm_X0_numberIn⟩ rfl dX0_statement_274 (m_X0_numberIn (Cx_l C) hX (d := d - 1) (by omega) s93 1 3 h) (by omega) (by decide) (Nat.le_of_ble_eq_true rfl) (fun s96 w97 hE98 hP99 => ?_) (fun s102 E100 q101 hE98 hP99 => ?_)
    rotate_left
    · rcases hP99 with ⟨rfl, a_, rfl, hb_, hs_, h⟩
      exact XT_out C rfl (hf s102 a_ hb_ hs_ h)
    obtain ⟨r95, rfl, h⟩ := hP99
    refine X_tls ?_
    refine X_putNSI (ci := 1) (j := 3) (q := (RX1, TX1, 10)) C rfl (by decide) q195 rfl rfl dX0_statement_277 (LH_0 (LX_H64 hX)) rfl rfl rfl ?_
    refine X_nm (fun s103 e104 => ?_)
    have h := h s103 e104
    refine X_goto (tgt := 366) C dX0_statement_280 (by decide) ?_
    exact X_vret C rfl dX0_statement_366 (hn s103 h)
  have h := h.2
  by_cases c114 : x3 = 3
  · have h := h.1 c114
    refine X_tableIn (tgt := 283) C dX0_statement_172 (by rw [c114]; decide) (by rw [c114]; decide) (off := 111) (by rw [c114]; rfl) (by decide) ?_
    refine X_aload_n C dX0_statement_283 rfl 0 rfl (isRV_r _) ?_
    refine X_callVS (ci := 0) (q := (RX0, TX0, 49)) (As := []) (rest := []) C rfl (LX_S hX (k := 0) rfl) q1245 q1247 qs45 q132 q1248 ⟨rfl, nm_X0_readsGame⟩ rfl dX0_statement_284 (m_X0_readsGame (Cx_l C) hX (d := d - 1) (by omega) st h) (by omega) (by decide) (Nat.le_of_ble_eq_true rfl) (fun s107 w108 hE109 hP110 => ?_) (fun s113 E111 q112 hE109 hP110 => ?_)
    rotate_left
    · rcases hP110 with ⟨rfl, a_, rfl, hb_, hs_, h⟩
      exact XT_out C rfl (hf s113 a_ hb_ hs_ h)
    obtain ⟨rfl, h⟩ := hP110
    refine X_tln ?_
    refine X_goto (tgt := 366) C dX0_statement_287 (by decide) ?_
    exact X_vret C rfl dX0_statement_366 (hn s107 h)
  have h := h.2
  by_cases c125 : x3 = 4
  · have h := h.1 c125
    refine X_tableIn (tgt := 290) C dX0_statement_172 (by rw [c125]; decide) (by rw [c125]; decide) (off := 118) (by rw [c125]; rfl) (by decide) ?_
    refine X_aload_n C dX0_statement_290 rfl 0 rfl (isRV_r _) ?_
    refine X_getF (ci := 0) (j := 3) (q := (RX0, TX0, 49)) C rfl (by decide) q263 rfl dX0_statement_291 (b := 64) (LX_S hX (k := 0) rfl) (LX_F hX (k := 0) (j := 3) rfl) rfl ?_
    refine X_aload_n C dX0_statement_294 rfl 0 rfl (isRV_r _) ?_
    refine X_iconst (v := 0) C dX0_statement_295 rfl ?_
    refine X_aload_n C dX0_statement_296 rfl 0 rfl (isRV_r _) ?_
    refine X_getF (ci := 0) (j := 3) (q := (RX0, TX0, 49)) C rfl (by decide) q263 rfl dX0_statement_297 (b := 64) (LX_S hX (k := 0) rfl) (LX_F hX (k := 0) (j := 3) rfl) rfl ?_
    refine X_getNS (ci := 1) (j := 9) (q := (RX1, TX1, 10)) C rfl (by decide) q207 rfl dX0_statement_300 (LH_0 (LX_H64 hX)) (v := .int (sI st 64 9)) rfl ?_
    refine X_iconst (v := 1) C dX0_statement_303 rfl ?_
    refine X_isub C dX0_statement_304 ?_
    refine X_callVS (ci := 0) (q := (RX0, TX0, 49)) (As := [_, _]) (rest := [_]) C rfl (LX_S hX (k := 0) rfl) q1241 q1243 qs44 q132 q1244 ⟨rfl, nm_X0_numberIn⟩ rfl dX0_statement_305 (m_X0_numberIn (Cx_l C) hX (d := d - 1) (by omega) st 0 ((sI st 64 9) - 1) h) (by omega) (by decide) (Nat.le_of_ble_eq_true rfl) (fun s116 w117 hE118 hP119 => ?_) (fun s122 E120 q121 hE118 hP119 => ?_)
    rotate_left
    · rcases hP119 with ⟨rfl, a_, rfl, hb_, hs_, h⟩
      exact XT_out C rfl (hf s122 a_ hb_ hs_ h)
    obtain ⟨r115, rfl, h⟩ := hP119
    refine X_tls ?_
    refine X_putNSI (ci := 1) (j := 4) (q := (RX1, TX1, 10)) C rfl (by decide) q197 rfl rfl dX0_statement_308 (LH_0 (LX_H64 hX)) rfl rfl rfl ?_
    refine X_nm (fun s123 e124 => ?_)
    have h := h s123 e124
    refine X_goto (tgt := 366) C dX0_statement_311 (by decide) ?_
    exact X_vret C rfl dX0_statement_366 (hn s123 h)
  have h := h.2
  by_cases c145 : x3 = 5
  · have h := h.1 c145
    refine X_tableIn (tgt := 314) C dX0_statement_172 (by rw [c145]; decide) (by rw [c145]; decide) (off := 142) (by rw [c145]; rfl) (by decide) ?_
    refine X_aload_n C dX0_statement_314 rfl 0 rfl (isRV_r _) ?_
    refine X_iconst (v := 0) C dX0_statement_315 rfl ?_
    refine X_aload_n C dX0_statement_316 rfl 0 rfl (isRV_r _) ?_
    refine X_getF (ci := 0) (j := 3) (q := (RX0, TX0, 49)) C rfl (by decide) q263 rfl dX0_statement_317 (b := 64) (LX_S hX (k := 0) rfl) (LX_F hX (k := 0) (j := 3) rfl) rfl ?_
    refine X_getNS (ci := 1) (j := 0) (q := (RX1, TX1, 10)) C rfl (by decide) q189 rfl dX0_statement_320 (LH_0 (LX_H64 hX)) (v := .int (sI st 64 0)) rfl ?_
    refine X_iconst (v := 1) C dX0_statement_323 rfl ?_
    refine X_isub C dX0_statement_324 ?_
    refine X_callVS (ci := 0) (q := (RX0, TX0, 49)) (As := [_, _]) (rest := []) C rfl (LX_S hX (k := 0) rfl) q1241 q1243 qs44 q132 q1244 ⟨rfl, nm_X0_numberIn⟩ rfl dX0_statement_325 (m_X0_numberIn (Cx_l C) hX (d := d - 1) (by omega) st 0 ((sI st 64 0) - 1) h) (by omega) (by decide) (Nat.le_of_ble_eq_true rfl) (fun s127 w128 hE129 hP130 => ?_) (fun s133 E131 q132 hE129 hP130 => ?_)
    rotate_left
    · rcases hP130 with ⟨rfl, a_, rfl, hb_, hs_, h⟩
      exact XT_out C rfl (hf s133 a_ hb_ hs_ h)
    obtain ⟨r126, rfl, h⟩ := hP130
    refine X_tls ?_
    refine X_istore C dX0_statement_328 (lo2 := [(4, _), (0, _), (3, _)]) (by decide) rfl ?_
    refine X_aload_n C dX0_statement_330 rfl 1 rfl (isRV_r _) ?_
    refine X_getF (ci := 0) (j := 3) (q := (RX0, TX0, 49)) C rfl (by decide) q263 rfl dX0_statement_331 (b := 64) (LX_S hX (k := 0) rfl) (LX_F hX (k := 0) (j := 3) rfl) rfl ?_
    refine X_getNF (ci := 1) (j := 6) (q := (RX1, TX1, 10)) C rfl (by decide) q201 rfl dX0_statement_334 (b := (64 + 14)) (LH_0 (LX_H64 hX)) (LH_F (LX_H64 hX) (k := 0) (j := 6) rfl) rfl ?_
    refine X_iload C dX0_statement_337 0 rfl ?_
    refine X_aload_n C dX0_statement_339 rfl 1 rfl (isRV_r _) ?_
    refine X_bipush (v := 99) C dX0_statement_340 rfl ?_
    refine X_callVS (ci := 0) (q := (RX0, TX0, 49)) (As := [_]) (rest := [_, _]) C rfl (LX_S hX (k := 0) rfl) q1249 q1251 qs46 q132 q1252 ⟨rfl, nm_X0_signed⟩ rfl dX0_statement_342 (m_X0_signed (Cx_l C) hX (d := d - 1) (by omega) s127 99 h) (by omega) (by decide) (Nat.le_of_ble_eq_true rfl) (fun s135 w136 hE137 hP138 => ?_) (fun s141 E139 q140 hE137 hP138 => ?_)
    rotate_left
    · rcases hP138 with ⟨rfl, a_, rfl, hb_, hs_, h⟩
      exact XT_out C rfl (hf s141 a_ hb_ hs_ h)
    obtain ⟨r134, rfl, h⟩ := hP138
    refine X_tls ?_
    have g142 := h.1
    have h := h.2
    refine X_iastS C (LH_S (LX_H64 hX) (k := 14) rfl) (LH_L (LX_H64 hX) (k := 14) rfl) g142 rfl dX0_statement_345 ?_
    refine X_nm (fun s143 e144 => ?_)
    have h := h s143 e144
    refine X_goto (tgt := 366) C dX0_statement_346 (by decide) ?_
    exact X_vret C rfl dX0_statement_366 (hn s143 h)
  have h := h.2
  have c160 : x3.toInt < 0 ∨ 5 < x3.toInt := by
    have qc65 := ne_toInt c65
    have qc84 := ne_toInt c84
    have qc105 := ne_toInt c105
    have qc114 := ne_toInt c114
    have qc125 := ne_toInt c125
    have qc145 := ne_toInt c145
    simp only [Int32.reduceToInt] at qc65 qc84 qc105 qc114 qc125 qc145
    omega
  refine X_tableOut (tgt := 349) C dX0_statement_172 c160 (by decide) ?_
  have h := h c160
  refine X_aload_n C dX0_statement_349 rfl 0 rfl (isRV_r _) ?_
  refine X_iconst (v := 0) C dX0_statement_350 rfl ?_
  refine X_putSI (ci := 0) (j := 39) (q := (RX0, TX0, 49)) C rfl (by decide) q299 rfl rfl dX0_statement_351 (LX_S hX (k := 0) rfl) rfl rfl rfl ?_
  refine X_nm (fun s146 e147 => ?_)
  have h := h s146 e147
  refine X_aload_n C dX0_statement_354 rfl 0 rfl (isRV_r _) ?_
  refine X_getF (ci := 0) (j := 3) (q := (RX0, TX0, 49)) C rfl (by decide) q263 rfl dX0_statement_355 (b := 64) (LX_S hX (k := 0) rfl) (LX_F hX (k := 0) (j := 3) rfl) rfl ?_
  refine X_aload_n C dX0_statement_358 rfl 0 rfl (isRV_r _) ?_
  refine X_iconst (v := (-1)) C dX0_statement_359 rfl ?_
  refine X_callVS (ci := 0) (q := (RX0, TX0, 49)) (As := [_]) (rest := [_]) C rfl (LX_S hX (k := 0) rfl) q1253 q1255 qs47 q132 q1256 ⟨rfl, nm_X0_readsNode⟩ rfl dX0_statement_360 (m_X0_readsNode_f (Cx_l C) hX 8 (d := d - 1) (by omega) s146 (-1) h) (by omega) (by decide) (Nat.le_of_ble_eq_true rfl) (fun s149 w150 hE151 hP152 => ?_) (fun s155 E153 q154 hE151 hP152 => ?_)
  rotate_left
  · rcases hP152 with ⟨rfl, a_, rfl, hb_, hs_, h⟩
    exact XT_out C rfl (hf s155 a_ hb_ hs_ h)
  obtain ⟨r148, rfl, hb156, hs157, h⟩ := hP152
  refine X_tls ?_
  refine X_putNSR (v := (some r148)) (ci := 1) (j := 7) (q := (RX1, TX1, 10)) C rfl (by decide) q203 rfl rfl dX0_statement_363 (LH_0 (LX_H64 hX)) (sv_R (Or.inl ⟨_, rfl⟩) _ _) (LH_N (LX_H64 hX) (k := 0) (j := 7) rfl) (nr_ref (Or.inl ⟨_, rfl⟩)).1 (nr_ref (Or.inl ⟨_, rfl⟩)).2 ?_
  refine X_nm (fun s158 e159 => ?_)
  have h := h s158 e159
  have hs157 : sh s158 r148 = 8 := by rw [e159]; exact hs157
  exact X_vret C rfl dX0_statement_366 (hn s158 h)
def w_X0_statement (st : St) (Φ : St → Prop) (Φf : St → Nat → Prop) : Prop := ∃ r1, (sR st 0 36) = some r1 ∧ sh st r1 = 10 ∧ w_X0_isVerb st r1 (fun (s5 : St) (r4 : Int32) => w_X0_wants s5 r4 (fun (s13 : St) => w_X0_next s13 (fun (s21 : St) => w_J6_hashCode s21 r1 (fun (s29 : St) (r28 : Int32) => (r28 = (-892482046) → w_J6_equals s29 r1 (gBIG + 2 * 2) (fun (r38 : Int32) => ((r38 = 0) → w_X0_statement_b171 Φ Φf s29 (-1)) ∧ ((¬ r38 = 0) → w_X0_statement_b171 Φ Φf s29 0))) ∧ (r28 = (-880905839) → w_J6_equals s29 r1 (gBIG + 2 * 7) (fun (r164 : Int32) => ((r164 = 0) → w_X0_statement_b171 Φ Φf s29 (-1)) ∧ ((¬ r164 = 0) → w_X0_statement_b171 Φ Φf s29 5))) ∧ (r28 = 3165170 → w_J6_equals s29 r1 (gBIG + 2 * 5) (fun (r176 : Int32) => ((r176 = 0) → w_X0_statement_b171 Φ Φf s29 (-1)) ∧ ((¬ r176 = 0) → w_X0_statement_b171 Φ Φf s29 3))) ∧ (r28 = 3530753 → w_J6_equals s29 r1 (gBIG + 2 * 4) (fun (r188 : Int32) => ((r188 = 0) → w_X0_statement_b171 Φ Φf s29 (-1)) ∧ ((¬ r188 = 0) → w_X0_statement_b171 Φ Φf s29 2))) ∧ (r28 = 106437344 → w_J6_equals s29 r1 (gBIG + 2 * 3) (fun (r200 : Int32) => ((r200 = 0) → w_X0_statement_b171 Φ Φf s29 (-1)) ∧ ((¬ r200 = 0) → w_X0_statement_b171 Φ Φf s29 1))) ∧ (r28 = 106934986 → w_J6_equals s29 r1 (gBIG + 2 * 6) (fun (r212 : Int32) => ((r212 = 0) → w_X0_statement_b171 Φ Φf s29 (-1)) ∧ ((¬ r212 = 0) → w_X0_statement_b171 Φ Φf s29 4))) ∧ (¬ r28 = (-892482046) → ¬ r28 = (-880905839) → ¬ r28 = 3165170 → ¬ r28 = 3530753 → ¬ r28 = 106437344 → ¬ r28 = 106934986 → w_X0_statement_b171 Φ Φf s29 (-1)))) Φf) Φf)
theorem e_X0_statement : plainFor yX0_statement = true := plainFor_of_name (by decide +kernel)
theorem m_X0_statement {θ : Th} {l : Launch} (hl0 : l.stackTraces = false) (hX : LX θ) {d : Nat} (hd : 25 ≤ d) (st : St) {Φ : St → Prop} {Φf : St → Nat → Prop} (h : w_X0_statement st Φ Φf) : Ct θ l yX0_statement (ws_ yX0_statement cX0_statement 5 (none : Option Jvm.ClassFile.FieldType)) d [.ref (ad θ 0)] st (pV Φ, (exF θ Φf)) := by
  refine Ct_entry hl0 e_X0_statement (Nat.le_of_ble_eq_true rfl) (fun κ hκ _ C => ?_)
  have hn : ∀ st, Φ st → ((pV Φ, (exF θ Φf)) : Ph).1 st none := fun st q => ⟨rfl, q⟩
  have hf : ∀ st a, a < gBIG → sh st a = 7 → Φf st a → ((pV Φ, (exF θ Φf)) : Ph).2 st "SecretsWorth$Fault" (ad θ a) := fun st a q1 q2 q => ⟨rfl, a, rfl, q1, q2, q⟩
  change X _ _ _ _ _ [(0, .ref (ad θ 0))] _
  unfold w_X0_statement at h
  refine X_aload_n C dX0_statement_0 rfl 0 rfl (isRV_r _) ?_
  refine X_getS (ci := 0) (j := 36) (q := (RX0, TX0, 49)) C rfl (by decide) q296 rfl dX0_statement_1 (LX_S hX (k := 0) rfl) (v := rv θ (sR st 0 36)) rfl ?_
  refine X_astore_n C dX0_statement_4 rfl (isRV_v _ _) (lo2 := [(1, _), (0, _)]) (by decide) rfl ?_
  refine X_aload_n C dX0_statement_5 rfl 1 rfl (isRV_r _) ?_
  refine X_aload_n C dX0_statement_6 rfl 0 rfl (isRV_v _ _) ?_
  obtain ⟨r1, q2, hs3, h⟩ := h
  rw [q2]
  refine X_tor ?_
  refine X_callS (As := [_]) (rest := [_]) C q1170 q1171 q132 q1172 nm_X0_isVerb rfl dX0_statement_7 (m_X0_isVerb (Cx_l C) hX (d := d - 1) (by omega) st r1 hs3 h) (by omega) (by decide) (Nat.le_of_ble_eq_true rfl) (fun s5 w6 hE7 hP8 => ?_) (fun s11 E9 q10 hE7 hP8 => ?_)
  rotate_left
  · exact False.elim hP8
  obtain ⟨r4, rfl, h⟩ := hP8
  refine X_tls ?_
  have hs3 := Ext_sh hE7 hs3 (by decide)
  refine X_callVS (ci := 0) (q := (RX0, TX0, 49)) (As := [_]) (rest := []) C rfl (LX_S hX (k := 0) rfl) q1144 q1146 qs42 q132 q1147 ⟨rfl, nm_X0_wants⟩ rfl dX0_statement_10 (m_X0_wants (Cx_l C) hX (d := d - 1) (by omega) s5 r4 h) (by omega) (by decide) (Nat.le_of_ble_eq_true rfl) (fun s13 w14 hE15 hP16 => ?_) (fun s19 E17 q18 hE15 hP16 => ?_)
  rotate_left
  · rcases hP16 with ⟨rfl, a_, rfl, hb_, hs_, h⟩
    exact XT_out C rfl (hf s19 a_ hb_ hs_ h)
  obtain ⟨rfl, h⟩ := hP16
  refine X_tln ?_
  have hs3 := Ext_sh hE15 hs3 (by decide)
  refine X_aload_n C dX0_statement_13 rfl 1 rfl (isRV_r _) ?_
  refine X_callVS (ci := 0) (q := (RX0, TX0, 49)) (As := []) (rest := []) C rfl (LX_S hX (k := 0) rfl) q950 q952 qs39 q132 q953 ⟨rfl, nm_X0_next⟩ rfl dX0_statement_14 (m_X0_next (Cx_l C) hX (d := d - 1) (by omega) s13 h) (by omega) (by decide) (Nat.le_of_ble_eq_true rfl) (fun s21 w22 hE23 hP24 => ?_) (fun s27 E25 q26 hE23 hP24 => ?_)
  rotate_left
  · rcases hP24 with ⟨rfl, a_, rfl, hb_, hs_, h⟩
    exact XT_out C rfl (hf s27 a_ hb_ hs_ h)
  obtain ⟨rfl, h⟩ := hP24
  refine X_tln ?_
  have hs3 := Ext_sh hE23 hs3 (by decide)
  refine X_aload_n C dX0_statement_17 rfl 0 rfl (isRV_r _) ?_
  refine X_astore_n C dX0_statement_18 rfl (isRV_r _) (lo2 := [(2, _), (1, _), (0, _)]) (by decide) rfl ?_
  refine X_iconst (v := (-1)) C dX0_statement_19 rfl ?_
  refine X_istore_n C dX0_statement_20 rfl (lo2 := [(3, _), (2, _), (1, _), (0, _)]) (by decide) rfl ?_
  refine X_aload_n C dX0_statement_21 rfl 1 rfl (isRV_r _) ?_
  refine X_callV (ci := 9) (q := (RJ6, TJ6, 4)) (As := []) (rest := []) C rfl hs3 q1173 q1174 q1175 q144 q1176 ⟨rfl, nm_J6_hashCode⟩ rfl dX0_statement_22 (m_J6_hashCode (Cx_l C) hX (d := d - 1) (by omega) s21 r1 hs3 h) (by omega) (by decide) (Nat.le_of_ble_eq_true rfl) (fun s29 w30 hE31 hP32 => ?_) (fun s35 E33 q34 hE31 hP32 => ?_)
  rotate_left
  · exact False.elim hP32
  obtain ⟨r28, rfl, h⟩ := hP32
  refine X_tls ?_
  have hs3 := Ext_sh hE31 hs3 (by decide)
  by_cases c161 : r28 = (-892482046)
  · have h := h.1 c161
    refine X_lookup (tgt := 84) C dX0_statement_25 (by decide) (off := 59) (by rw [c161]; rfl) (by decide) ?_
    refine X_aload_n C dX0_statement_84 rfl 1 rfl (isRV_r _) ?_
    refine X_ldcws (tx := "states") (i := 2) C (by decide +kernel) dX0_statement_85 ?_
    refine X_con (fun hc36 => ?_)
    have hs37 : sh s29 (gBIG + 2 * 2) = 10 := con_str hc36 (by decide)
    refine X_callV (ci := 9) (q := (RJ6, TJ6, 4)) (As := [_]) (rest := []) C rfl hs3 q1227 q1228 q1229 q144 q1230 ⟨rfl, nm_J6_equals⟩ rfl dX0_statement_88 (m_J6_equals (Cx_l C) hX (d := d - 1) (by omega) s29 r1 (gBIG + 2 * 2) hs3 hs37 h) (by omega) (by decide) (Nat.le_of_ble_eq_true rfl) (fun s44 w39 hE40 hP41 => ?_) (fun s45 E42 q43 hE40 hP41 => ?_)
    rotate_left
    · exact False.elim hP41
    obtain ⟨r38, rfl, rfl, h⟩ := hP41
    refine X_tls ?_
    refine X_if_eq (tgt := 171) C dX0_statement_91 (by decide) (fun c46 => ?_) (fun c46 => ?_)
    · have h := h.1 c46
      refine X_sub [3, 0] (lo2 := [(0, _), (3, _)]) rfl ?_
      exact t_X0_statement_b171 hX hd C hn hf s29 (-1) h
    · have h := h.2 c46
      refine X_iconst (v := 0) C dX0_statement_94 rfl ?_
      refine X_istore_n C dX0_statement_95 rfl (lo2 := [(3, _), (2, _), (1, _), (0, _)]) (by decide) rfl ?_
      refine X_goto (tgt := 171) C dX0_statement_96 (by decide) ?_
      refine X_sub [3, 0] (lo2 := [(0, _), (3, _)]) rfl ?_
      exact t_X0_statement_b171 hX hd C hn hf s29 0 h
  have h := h.2
  by_cases c173 : r28 = (-880905839)
  · have h := h.1 c173
    refine X_lookup (tgt := 159) C dX0_statement_25 (by decide) (off := 134) (by rw [c173]; rfl) (by decide) ?_
    refine X_aload_n C dX0_statement_159 rfl 1 rfl (isRV_r _) ?_
    refine X_ldcws (tx := "target") (i := 7) C (by decide +kernel) dX0_statement_160 ?_
    refine X_con (fun hc162 => ?_)
    have hs163 : sh s29 (gBIG + 2 * 7) = 10 := con_str hc162 (by decide)
    refine X_callV (ci := 9) (q := (RJ6, TJ6, 4)) (As := [_]) (rest := []) C rfl hs3 q1227 q1228 q1229 q144 q1230 ⟨rfl, nm_J6_equals⟩ rfl dX0_statement_163 (m_J6_equals (Cx_l C) hX (d := d - 1) (by omega) s29 r1 (gBIG + 2 * 7) hs3 hs163 h) (by omega) (by decide) (Nat.le_of_ble_eq_true rfl) (fun s170 w165 hE166 hP167 => ?_) (fun s171 E168 q169 hE166 hP167 => ?_)
    rotate_left
    · exact False.elim hP167
    obtain ⟨r164, rfl, rfl, h⟩ := hP167
    refine X_tls ?_
    refine X_if_eq (tgt := 171) C dX0_statement_166 (by decide) (fun c172 => ?_) (fun c172 => ?_)
    · have h := h.1 c172
      refine X_sub [3, 0] (lo2 := [(0, _), (3, _)]) rfl ?_
      exact t_X0_statement_b171 hX hd C hn hf s29 (-1) h
    · have h := h.2 c172
      refine X_iconst (v := 5) C dX0_statement_169 rfl ?_
      refine X_istore_n C dX0_statement_170 rfl (lo2 := [(3, _), (2, _), (1, _), (0, _)]) (by decide) rfl ?_
      refine X_sub [3, 0] (lo2 := [(0, _), (3, _)]) rfl ?_
      exact t_X0_statement_b171 hX hd C hn hf s29 5 h
  have h := h.2
  by_cases c185 : r28 = 3165170
  · have h := h.1 c185
    refine X_lookup (tgt := 129) C dX0_statement_25 (by decide) (off := 104) (by rw [c185]; rfl) (by decide) ?_
    refine X_aload_n C dX0_statement_129 rfl 1 rfl (isRV_r _) ?_
    refine X_ldcws (tx := "game") (i := 5) C (by decide +kernel) dX0_statement_130 ?_
    refine X_con (fun hc174 => ?_)
    have hs175 : sh s29 (gBIG + 2 * 5) = 10 := con_str hc174 (by decide)
    refine X_callV (ci := 9) (q := (RJ6, TJ6, 4)) (As := [_]) (rest := []) C rfl hs3 q1227 q1228 q1229 q144 q1230 ⟨rfl, nm_J6_equals⟩ rfl dX0_statement_133 (m_J6_equals (Cx_l C) hX (d := d - 1) (by omega) s29 r1 (gBIG + 2 * 5) hs3 hs175 h) (by omega) (by decide) (Nat.le_of_ble_eq_true rfl) (fun s182 w177 hE178 hP179 => ?_) (fun s183 E180 q181 hE178 hP179 => ?_)
    rotate_left
    · exact False.elim hP179
    obtain ⟨r176, rfl, rfl, h⟩ := hP179
    refine X_tls ?_
    refine X_if_eq (tgt := 171) C dX0_statement_136 (by decide) (fun c184 => ?_) (fun c184 => ?_)
    · have h := h.1 c184
      refine X_sub [3, 0] (lo2 := [(0, _), (3, _)]) rfl ?_
      exact t_X0_statement_b171 hX hd C hn hf s29 (-1) h
    · have h := h.2 c184
      refine X_iconst (v := 3) C dX0_statement_139 rfl ?_
      refine X_istore_n C dX0_statement_140 rfl (lo2 := [(3, _), (2, _), (1, _), (0, _)]) (by decide) rfl ?_
      refine X_goto (tgt := 171) C dX0_statement_141 (by decide) ?_
      refine X_sub [3, 0] (lo2 := [(0, _), (3, _)]) rfl ?_
      exact t_X0_statement_b171 hX hd C hn hf s29 3 h
  have h := h.2
  by_cases c197 : r28 = 3530753
  · have h := h.1 c197
    refine X_lookup (tgt := 114) C dX0_statement_25 (by decide) (off := 89) (by rw [c197]; rfl) (by decide) ?_
    refine X_aload_n C dX0_statement_114 rfl 1 rfl (isRV_r _) ?_
    refine X_ldcws (tx := "size") (i := 4) C (by decide +kernel) dX0_statement_115 ?_
    refine X_con (fun hc186 => ?_)
    have hs187 : sh s29 (gBIG + 2 * 4) = 10 := con_str hc186 (by decide)
    refine X_callV (ci := 9) (q := (RJ6, TJ6, 4)) (As := [_]) (rest := []) C rfl hs3 q1227 q1228 q1229 q144 q1230 ⟨rfl, nm_J6_equals⟩ rfl dX0_statement_118 (m_J6_equals (Cx_l C) hX (d := d - 1) (by omega) s29 r1 (gBIG + 2 * 4) hs3 hs187 h) (by omega) (by decide) (Nat.le_of_ble_eq_true rfl) (fun s194 w189 hE190 hP191 => ?_) (fun s195 E192 q193 hE190 hP191 => ?_)
    rotate_left
    · exact False.elim hP191
    obtain ⟨r188, rfl, rfl, h⟩ := hP191
    refine X_tls ?_
    refine X_if_eq (tgt := 171) C dX0_statement_121 (by decide) (fun c196 => ?_) (fun c196 => ?_)
    · have h := h.1 c196
      refine X_sub [3, 0] (lo2 := [(0, _), (3, _)]) rfl ?_
      exact t_X0_statement_b171 hX hd C hn hf s29 (-1) h
    · have h := h.2 c196
      refine X_iconst (v := 2) C dX0_statement_124 rfl ?_
      refine X_istore_n C dX0_statement_125 rfl (lo2 := [(3, _), (2, _), (1, _), (0, _)]) (by decide) rfl ?_
      refine X_goto (tgt := 171) C dX0_statement_126 (by decide) ?_
      refine X_sub [3, 0] (lo2 := [(0, _), (3, _)]) rfl ?_
      exact t_X0_statement_b171 hX hd C hn hf s29 2 h
  have h := h.2
  by_cases c209 : r28 = 106437344
  · have h := h.1 c209
    refine X_lookup (tgt := 99) C dX0_statement_25 (by decide) (off := 74) (by rw [c209]; rfl) (by decide) ?_
    refine X_aload_n C dX0_statement_99 rfl 1 rfl (isRV_r _) ?_
    refine X_ldcws (tx := "parts") (i := 3) C (by decide +kernel) dX0_statement_100 ?_
    refine X_con (fun hc198 => ?_)
    have hs199 : sh s29 (gBIG + 2 * 3) = 10 := con_str hc198 (by decide)
    refine X_callV (ci := 9) (q := (RJ6, TJ6, 4)) (As := [_]) (rest := []) C rfl hs3 q1227 q1228 q1229 q144 q1230 ⟨rfl, nm_J6_equals⟩ rfl dX0_statement_103 (m_J6_equals (Cx_l C) hX (d := d - 1) (by omega) s29 r1 (gBIG + 2 * 3) hs3 hs199 h) (by omega) (by decide) (Nat.le_of_ble_eq_true rfl) (fun s206 w201 hE202 hP203 => ?_) (fun s207 E204 q205 hE202 hP203 => ?_)
    rotate_left
    · exact False.elim hP203
    obtain ⟨r200, rfl, rfl, h⟩ := hP203
    refine X_tls ?_
    refine X_if_eq (tgt := 171) C dX0_statement_106 (by decide) (fun c208 => ?_) (fun c208 => ?_)
    · have h := h.1 c208
      refine X_sub [3, 0] (lo2 := [(0, _), (3, _)]) rfl ?_
      exact t_X0_statement_b171 hX hd C hn hf s29 (-1) h
    · have h := h.2 c208
      refine X_iconst (v := 1) C dX0_statement_109 rfl ?_
      refine X_istore_n C dX0_statement_110 rfl (lo2 := [(3, _), (2, _), (1, _), (0, _)]) (by decide) rfl ?_
      refine X_goto (tgt := 171) C dX0_statement_111 (by decide) ?_
      refine X_sub [3, 0] (lo2 := [(0, _), (3, _)]) rfl ?_
      exact t_X0_statement_b171 hX hd C hn hf s29 1 h
  have h := h.2
  by_cases c221 : r28 = 106934986
  · have h := h.1 c221
    refine X_lookup (tgt := 144) C dX0_statement_25 (by decide) (off := 119) (by rw [c221]; rfl) (by decide) ?_
    refine X_aload_n C dX0_statement_144 rfl 1 rfl (isRV_r _) ?_
    refine X_ldcws (tx := "prior") (i := 6) C (by decide +kernel) dX0_statement_145 ?_
    refine X_con (fun hc210 => ?_)
    have hs211 : sh s29 (gBIG + 2 * 6) = 10 := con_str hc210 (by decide)
    refine X_callV (ci := 9) (q := (RJ6, TJ6, 4)) (As := [_]) (rest := []) C rfl hs3 q1227 q1228 q1229 q144 q1230 ⟨rfl, nm_J6_equals⟩ rfl dX0_statement_148 (m_J6_equals (Cx_l C) hX (d := d - 1) (by omega) s29 r1 (gBIG + 2 * 6) hs3 hs211 h) (by omega) (by decide) (Nat.le_of_ble_eq_true rfl) (fun s218 w213 hE214 hP215 => ?_) (fun s219 E216 q217 hE214 hP215 => ?_)
    rotate_left
    · exact False.elim hP215
    obtain ⟨r212, rfl, rfl, h⟩ := hP215
    refine X_tls ?_
    refine X_if_eq (tgt := 171) C dX0_statement_151 (by decide) (fun c220 => ?_) (fun c220 => ?_)
    · have h := h.1 c220
      refine X_sub [3, 0] (lo2 := [(0, _), (3, _)]) rfl ?_
      exact t_X0_statement_b171 hX hd C hn hf s29 (-1) h
    · have h := h.2 c220
      refine X_iconst (v := 4) C dX0_statement_154 rfl ?_
      refine X_istore_n C dX0_statement_155 rfl (lo2 := [(3, _), (2, _), (1, _), (0, _)]) (by decide) rfl ?_
      refine X_goto (tgt := 171) C dX0_statement_156 (by decide) ?_
      refine X_sub [3, 0] (lo2 := [(0, _), (3, _)]) rfl ?_
      exact t_X0_statement_b171 hX hd C hn hf s29 4 h
  have h := h.2
  have h := h c161 c173 c185 c197 c209 c221
  refine X_lookup (tgt := 171) C dX0_statement_25 (by decide) (off := 146) (lookup_d (fun q_ hq_ => ?_)) (by decide) ?_
  · simp only [List.mem_cons, List.not_mem_nil, or_false] at hq_
    rcases hq_ with rfl | rfl | rfl | rfl | rfl | rfl
    · have e_ := ne_toInt c161
      simp only [Int32.reduceToInt] at e_
      exact fun z_ => e_ z_.symm
    · have e_ := ne_toInt c173
      simp only [Int32.reduceToInt] at e_
      exact fun z_ => e_ z_.symm
    · have e_ := ne_toInt c185
      simp only [Int32.reduceToInt] at e_
      exact fun z_ => e_ z_.symm
    · have e_ := ne_toInt c197
      simp only [Int32.reduceToInt] at e_
      exact fun z_ => e_ z_.symm
    · have e_ := ne_toInt c209
      simp only [Int32.reduceToInt] at e_
      exact fun z_ => e_ z_.symm
    · have e_ := ne_toInt c221
      simp only [Int32.reduceToInt] at e_
      exact fun z_ => e_ z_.symm
  · refine X_sub [3, 0] (lo2 := [(0, _), (3, _)]) rfl ?_
    exact t_X0_statement_b171 hX hd C hn hf s29 (-1) h

theorem nm_X0_statements : yX0_statements.cls ≠ "java/lang/invoke/MethodHandle" ∧ yX0_statements.cls ≠ "java/lang/invoke/VarHandle" ∧ (parseMethodDescriptor yX0_statements.desc).map (fun d => d.parameters.length) = some 0 := by decide +kernel
def w_X0_statements_l10 (Φ : St → Int32 → Prop) (Φf : St → Nat → Prop) (E33 : St → Int32 → Prop) : Nat → St → Int32 → Prop
  | 0, _, _ => False
  | n + 1, st, x1 => (((sI st 0 38) ≠ 59) → E33 st x1) ∧ (((sI st 0 38) = 59) → w_X0_next st (fun (s19 : St) => w_X0_statement s19 (fun (s27 : St) => w_X0_statements_l10 Φ Φf E33 n s27 (x1 + 1)) Φf) Φf)
theorem t_X0_statements_l10 {θ : Th} {κ : Kx} {Ph : Ph} (hX : LX θ) {d : Nat} (hd : 26 ≤ d) (C : Cx θ κ yX0_statements cX0_statements 2 (some Jvm.ClassFile.FieldType.int) [] d) {Φ : St → Int32 → Prop} {Φf : St → Nat → Prop} (hn : ∀ st r, Φ st r → Ph.1 st (some (.int r))) (hf : ∀ st a, a < gBIG → sh st a = 7 → Φf st a → Ph.2 st "SecretsWorth$Fault" (ad θ a)) {E33 : St → Int32 → Prop} (hE33 : ∀ (st : St) (x1 : Int32), E33 st x1 → X θ κ Ph st 33 [(0, .ref (ad θ 0)), (1, .int x1)] []) : ∀ (n : Nat) (st : St) (x1 : Int32), w_X0_statements_l10 Φ Φf E33 n st x1 → X θ κ Ph st 10 [(0, .ref (ad θ 0)), (1, .int x1)] [] := by
  intro n
  induction n with
  | zero => intro st x1 h; exact h.elim
  | succ n hK10 =>
    intro st x1 h
    rw [w_X0_statements_l10] at h
    refine X_aload_n C dX0_statements_10 rfl 0 rfl (isRV_r _) ?_
    refine X_getS (ci := 0) (j := 38) (q := (RX0, TX0, 49)) C rfl (by decide) q298 rfl dX0_statements_11 (LX_S hX (k := 0) rfl) (v := .int (sI st 0 38)) rfl ?_
    refine X_bipush (v := 59) C dX0_statements_14 rfl ?_
    refine X_icmp_ne (tgt := 33) C dX0_statements_16 (by decide) (fun c17 => ?_) (fun c17 => ?_)
    · have h := h.1 c17
      exact hE33 st x1 h
    · have h := h.2 c17
      refine X_aload_n C dX0_statements_19 rfl 0 rfl (isRV_r _) ?_
      refine X_callVS (ci := 0) (q := (RX0, TX0, 49)) (As := []) (rest := []) C rfl (LX_S hX (k := 0) rfl) q950 q952 qs39 q132 q953 ⟨rfl, nm_X0_next⟩ rfl dX0_statements_20 (m_X0_next (Cx_l C) hX (d := d - 1) (by omega) st h) (by omega) (by decide) (Nat.le_of_ble_eq_true rfl) (fun s19 w20 hE21 hP22 => ?_) (fun s25 E23 q24 hE21 hP22 => ?_)
      rotate_left
      · rcases hP22 with ⟨rfl, a_, rfl, hb_, hs_, h⟩
        exact XT_out C rfl (hf s25 a_ hb_ hs_ h)
      obtain ⟨rfl, h⟩ := hP22
      refine X_tln ?_
      refine X_aload_n C dX0_statements_23 rfl 0 rfl (isRV_r _) ?_
      refine X_callVS (ci := 0) (q := (RX0, TX0, 49)) (As := []) (rest := []) C rfl (LX_S hX (k := 0) rfl) q1166 q1168 qs43 q132 q1169 ⟨rfl, nm_X0_statement⟩ rfl dX0_statements_24 (m_X0_statement (Cx_l C) hX (d := d - 1) (by omega) s19 h) (by omega) (by decide) (Nat.le_of_ble_eq_true rfl) (fun s27 w28 hE29 hP30 => ?_) (fun s33 E31 q32 hE29 hP30 => ?_)
      rotate_left
      · rcases hP30 with ⟨rfl, a_, rfl, hb_, hs_, h⟩
        exact XT_out C rfl (hf s33 a_ hb_ hs_ h)
      obtain ⟨rfl, h⟩ := hP30
      refine X_tln ?_
      refine X_iinc (v := (x1 + 1)) C (j := 1) dX0_statements_27 rfl rfl (lo2 := [(1, _), (0, _)]) (by decide) rfl ?_
      refine X_goto (tgt := 10) C dX0_statements_30 (by decide) ?_
      refine X_sub [1, 0] (lo2 := [(0, _), (1, _)]) rfl ?_
      exact hK10 s27 (x1 + 1) h
def w_X0_statements_b64 (Φ : St → Int32 → Prop) (Φf : St → Nat → Prop) (st : St) (x1 : Int32) (z0 : Int32) : Prop := w_X0_wants st z0 (fun (s48 : St) => Φ s48 x1) Φf
theorem t_X0_statements_b64 {θ : Th} {κ : Kx} {Ph : Ph} (hX : LX θ) {d : Nat} (hd : 26 ≤ d) (C : Cx θ κ yX0_statements cX0_statements 2 (some Jvm.ClassFile.FieldType.int) [] d) {Φ : St → Int32 → Prop} {Φf : St → Nat → Prop} (hn : ∀ st r, Φ st r → Ph.1 st (some (.int r))) (hf : ∀ st a, a < gBIG → sh st a = 7 → Φf st a → Ph.2 st "SecretsWorth$Fault" (ad θ a)) (st : St) (x1 : Int32) (z0 : Int32) (h : w_X0_statements_b64 Φ Φf st x1 z0) : X θ κ Ph st 64 [(1, .int x1)] [.int z0, .ref (ad θ 0)] := by
  unfold w_X0_statements_b64 at h
  refine X_callVS (ci := 0) (q := (RX0, TX0, 49)) (As := [_]) (rest := []) C rfl (LX_S hX (k := 0) rfl) q1144 q1146 qs42 q132 q1147 ⟨rfl, nm_X0_wants⟩ rfl dX0_statements_64 (m_X0_wants (Cx_l C) hX (d := d - 1) (by omega) st z0 h) (by omega) (by decide) (Nat.le_of_ble_eq_true rfl) (fun s48 w49 hE50 hP51 => ?_) (fun s54 E52 q53 hE50 hP51 => ?_)
  rotate_left
  · rcases hP51 with ⟨rfl, a_, rfl, hb_, hs_, h⟩
    exact XT_out C rfl (hf s54 a_ hb_ hs_ h)
  obtain ⟨rfl, h⟩ := hP51
  refine X_tln ?_
  refine X_iload_n C dX0_statements_67 rfl 0 rfl ?_
  exact X_iret C rfl dX0_statements_68 (hn s48 _ h)
def w_X0_statements_b63 (Φ : St → Int32 → Prop) (Φf : St → Nat → Prop) (st : St) (x1 : Int32) : Prop := w_X0_statements_b64 Φ Φf st x1 0
theorem t_X0_statements_b63 {θ : Th} {κ : Kx} {Ph : Ph} (hX : LX θ) {d : Nat} (hd : 26 ≤ d) (C : Cx θ κ yX0_statements cX0_statements 2 (some Jvm.ClassFile.FieldType.int) [] d) {Φ : St → Int32 → Prop} {Φf : St → Nat → Prop} (hn : ∀ st r, Φ st r → Ph.1 st (some (.int r))) (hf : ∀ st a, a < gBIG → sh st a = 7 → Φf st a → Ph.2 st "SecretsWorth$Fault" (ad θ a)) (st : St) (x1 : Int32) (h : w_X0_statements_b63 Φ Φf st x1) : X θ κ Ph st 63 [(1, .int x1)] [.ref (ad θ 0)] := by
  unfold w_X0_statements_b63 at h
  refine X_iconst (v := 0) C dX0_statements_63 rfl ?_
  exact t_X0_statements_b64 hX hd C hn hf st x1 0 h
def w_X0_statements_b33 (Φ : St → Int32 → Prop) (Φf : St → Nat → Prop) (st : St) (x1 : Int32) : Prop := ∃ r35, (sR st 0 36) = some r35 ∧ sh st r35 = 10 ∧ w_J6_isEmpty st r35 (fun (r38 : Int32) => ((r38 = 0) → w_X0_statements_b63 Φ Φf st x1) ∧ ((¬ r38 = 0) → (((sI st 0 37) ≠ (-1)) → w_X0_statements_b63 Φ Φf st x1) ∧ (((sI st 0 37) = (-1)) → (((sI st 0 38) ≠ 0) → w_X0_statements_b63 Φ Φf st x1) ∧ (((sI st 0 38) = 0) → w_X0_statements_b64 Φ Φf st x1 1))))
theorem t_X0_statements_b33 {θ : Th} {κ : Kx} {Ph : Ph} (hX : LX θ) {d : Nat} (hd : 26 ≤ d) (C : Cx θ κ yX0_statements cX0_statements 2 (some Jvm.ClassFile.FieldType.int) [] d) {Φ : St → Int32 → Prop} {Φf : St → Nat → Prop} (hn : ∀ st r, Φ st r → Ph.1 st (some (.int r))) (hf : ∀ st a, a < gBIG → sh st a = 7 → Φf st a → Ph.2 st "SecretsWorth$Fault" (ad θ a)) (st : St) (x1 : Int32) (h : w_X0_statements_b33 Φ Φf st x1) : X θ κ Ph st 33 [(0, .ref (ad θ 0)), (1, .int x1)] [] := by
  unfold w_X0_statements_b33 at h
  refine X_aload_n C dX0_statements_33 rfl 0 rfl (isRV_r _) ?_
  refine X_aload_n C dX0_statements_34 rfl 0 rfl (isRV_r _) ?_
  refine X_getS (ci := 0) (j := 36) (q := (RX0, TX0, 49)) C rfl (by decide) q296 rfl dX0_statements_35 (LX_S hX (k := 0) rfl) (v := rv θ (sR st 0 36)) rfl ?_
  obtain ⟨r35, q36, hs37, h⟩ := h
  rw [q36]
  refine X_tor ?_
  refine X_callV (ci := 9) (q := (RJ6, TJ6, 4)) (As := []) (rest := [_]) C rfl hs37 q1299 q1300 q1301 q144 q1302 ⟨rfl, nm_J6_isEmpty⟩ rfl dX0_statements_38 (m_J6_isEmpty (Cx_l C) hX (d := d - 1) (by omega) st r35 hs37 h) (by omega) (by decide) (Nat.le_of_ble_eq_true rfl) (fun s44 w39 hE40 hP41 => ?_) (fun s45 E42 q43 hE40 hP41 => ?_)
  rotate_left
  · exact False.elim hP41
  obtain ⟨r38, rfl, rfl, h⟩ := hP41
  refine X_tls ?_
  refine X_if_eq (tgt := 63) C dX0_statements_41 (by decide) (fun c46 => ?_) (fun c46 => ?_)
  · have h := h.1 c46
    refine X_sub [1] (lo2 := [(1, _)]) rfl ?_
    exact t_X0_statements_b63 hX hd C hn hf st x1 h
  · have h := h.2 c46
    refine X_aload_n C dX0_statements_44 rfl 0 rfl (isRV_r _) ?_
    refine X_getS (ci := 0) (j := 37) (q := (RX0, TX0, 49)) C rfl (by decide) q297 rfl dX0_statements_45 (LX_S hX (k := 0) rfl) (v := .int (sI st 0 37)) rfl ?_
    refine X_iconst (v := (-1)) C dX0_statements_48 rfl ?_
    refine X_icmp_ne (tgt := 63) C dX0_statements_49 (by decide) (fun c55 => ?_) (fun c55 => ?_)
    · have h := h.1 c55
      refine X_sub [1] (lo2 := [(1, _)]) rfl ?_
      exact t_X0_statements_b63 hX hd C hn hf st x1 h
    · have h := h.2 c55
      refine X_aload_n C dX0_statements_52 rfl 0 rfl (isRV_r _) ?_
      refine X_getS (ci := 0) (j := 38) (q := (RX0, TX0, 49)) C rfl (by decide) q298 rfl dX0_statements_53 (LX_S hX (k := 0) rfl) (v := .int (sI st 0 38)) rfl ?_
      refine X_if_ne (tgt := 63) C dX0_statements_56 (by decide) (fun c56 => ?_) (fun c56 => ?_)
      · have h := h.1 c56
        refine X_sub [1] (lo2 := [(1, _)]) rfl ?_
        exact t_X0_statements_b63 hX hd C hn hf st x1 h
      · have h := h.2 c56
        refine X_iconst (v := 1) C dX0_statements_59 rfl ?_
        refine X_goto (tgt := 64) C dX0_statements_60 (by decide) ?_
        refine X_sub [1] (lo2 := [(1, _)]) rfl ?_
        exact t_X0_statements_b64 hX hd C hn hf st x1 1 h
def w_X0_statements (st : St) (Φ : St → Int32 → Prop) (Φf : St → Nat → Prop) : Prop := w_X0_next st (fun (s2 : St) => w_X0_statement s2 (fun (s10 : St) => w_X0_statements_l10 Φ Φf (fun (s34 : St) (x1 : Int32) => w_X0_statements_b33 Φ Φf s34 x1) gFU s10 1) Φf) Φf
theorem e_X0_statements : plainFor yX0_statements = true := plainFor_of_name (by decide +kernel)
theorem m_X0_statements {θ : Th} {l : Launch} (hl0 : l.stackTraces = false) (hX : LX θ) {d : Nat} (hd : 26 ≤ d) (st : St) {Φ : St → Int32 → Prop} {Φf : St → Nat → Prop} (h : w_X0_statements st Φ Φf) : Ct θ l yX0_statements (ws_ yX0_statements cX0_statements 2 (some Jvm.ClassFile.FieldType.int)) d [.ref (ad θ 0)] st (pI Φ, (exF θ Φf)) := by
  refine Ct_entry hl0 e_X0_statements (Nat.le_of_ble_eq_true rfl) (fun κ hκ _ C => ?_)
  have hn : ∀ st r, Φ st r → ((pI Φ, (exF θ Φf)) : Ph).1 st (some (.int r)) := fun st r q => ⟨r, rfl, q⟩
  have hf : ∀ st a, a < gBIG → sh st a = 7 → Φf st a → ((pI Φ, (exF θ Φf)) : Ph).2 st "SecretsWorth$Fault" (ad θ a) := fun st a q1 q2 q => ⟨rfl, a, rfl, q1, q2, q⟩
  change X _ _ _ _ _ [(0, .ref (ad θ 0))] _
  unfold w_X0_statements at h
  refine X_iconst (v := 1) C dX0_statements_0 rfl ?_
  refine X_istore_n C dX0_statements_1 rfl (lo2 := [(1, _), (0, _)]) (by decide) rfl ?_
  refine X_aload_n C dX0_statements_2 rfl 1 rfl (isRV_r _) ?_
  refine X_callVS (ci := 0) (q := (RX0, TX0, 49)) (As := []) (rest := []) C rfl (LX_S hX (k := 0) rfl) q950 q952 qs39 q132 q953 ⟨rfl, nm_X0_next⟩ rfl dX0_statements_3 (m_X0_next (Cx_l C) hX (d := d - 1) (by omega) st h) (by omega) (by decide) (Nat.le_of_ble_eq_true rfl) (fun s2 w3 hE4 hP5 => ?_) (fun s8 E6 q7 hE4 hP5 => ?_)
  rotate_left
  · rcases hP5 with ⟨rfl, a_, rfl, hb_, hs_, h⟩
    exact XT_out C rfl (hf s8 a_ hb_ hs_ h)
  obtain ⟨rfl, h⟩ := hP5
  refine X_tln ?_
  refine X_aload_n C dX0_statements_6 rfl 1 rfl (isRV_r _) ?_
  refine X_callVS (ci := 0) (q := (RX0, TX0, 49)) (As := []) (rest := []) C rfl (LX_S hX (k := 0) rfl) q1166 q1168 qs43 q132 q1169 ⟨rfl, nm_X0_statement⟩ rfl dX0_statements_7 (m_X0_statement (Cx_l C) hX (d := d - 1) (by omega) s2 h) (by omega) (by decide) (Nat.le_of_ble_eq_true rfl) (fun s10 w11 hE12 hP13 => ?_) (fun s16 E14 q15 hE12 hP13 => ?_)
  rotate_left
  · rcases hP13 with ⟨rfl, a_, rfl, hb_, hs_, h⟩
    exact XT_out C rfl (hf s16 a_ hb_ hs_ h)
  obtain ⟨rfl, h⟩ := hP13
  refine X_tln ?_
  refine X_sub [1, 0] (lo2 := [(0, _), (1, _)]) rfl ?_
  refine t_X0_statements_l10 hX hd C hn hf ?_ gFU s10 1 h
  · intro s34 x1 h
    exact t_X0_statements_b33 hX hd C hn hf s34 x1 h

theorem nm_X0_read : yX0_read.cls ≠ "java/lang/invoke/MethodHandle" ∧ yX0_read.cls ≠ "java/lang/invoke/VarHandle" ∧ (parseMethodDescriptor yX0_read.desc).map (fun d => d.parameters.length) = some 0 := by decide +kernel
def w_X0_read_b62 (Φ : St → Int32 → Prop) (st : St) (x1 : Int32) (z0 : Int32) : Prop := (z0 = 0 ∨ z0 = 1) ∧ ∀ s39, s39 = putI st 0 43 z0 → ∀ s41, s41 = putI s39 0 33 0 → Φ s41 x1
theorem t_X0_read_b62 {θ : Th} {κ : Kx} {Ph : Ph} (hX : LX θ) {d : Nat} (hd : 27 ≤ d) (C : Cx θ κ yX0_read cX0_read 2 (some Jvm.ClassFile.FieldType.int) [(26, 71, 72, 449)] d) {Φ : St → Int32 → Prop} (hn : ∀ st r, Φ st r → Ph.1 st (some (.int r))) (st : St) (x1 : Int32) (z0 : Int32) (h : w_X0_read_b62 Φ st x1 z0) : X θ κ Ph st 62 [(0, .ref (ad θ 0)), (1, .int x1)] [.int z0, .ref (ad θ 0)] := by
  unfold w_X0_read_b62 at h
  have g38 := h.1
  have h := h.2
  refine X_putSI (ci := 0) (j := 43) (q := (RX0, TX0, 49)) C rfl (by decide) q303 rfl rfl dX0_read_62 (LX_S hX (k := 0) rfl) rfl (nb_01 g38).1 (nb_01 g38).2 ?_
  refine X_nm (fun s39 e40 => ?_)
  have h := h s39 e40
  refine X_aload_n C dX0_read_65 rfl 0 rfl (isRV_r _) ?_
  refine X_iconst (v := 0) C dX0_read_66 rfl ?_
  refine X_putSI (ci := 0) (j := 33) (q := (RX0, TX0, 49)) C rfl (by decide) q293 rfl rfl dX0_read_67 (LX_S hX (k := 0) rfl) rfl rfl rfl ?_
  refine X_nm (fun s41 e42 => ?_)
  have h := h s41 e42
  refine X_iload_n C dX0_read_70 rfl 1 rfl ?_
  exact X_iret C rfl dX0_read_71 (hn s41 _ h)
def w_X0_read_b61 (Φ : St → Int32 → Prop) (st : St) (x1 : Int32) : Prop := w_X0_read_b62 Φ st x1 0
theorem t_X0_read_b61 {θ : Th} {κ : Kx} {Ph : Ph} (hX : LX θ) {d : Nat} (hd : 27 ≤ d) (C : Cx θ κ yX0_read cX0_read 2 (some Jvm.ClassFile.FieldType.int) [(26, 71, 72, 449)] d) {Φ : St → Int32 → Prop} (hn : ∀ st r, Φ st r → Ph.1 st (some (.int r))) (st : St) (x1 : Int32) (h : w_X0_read_b61 Φ st x1) : X θ κ Ph st 61 [(0, .ref (ad θ 0)), (1, .int x1)] [.ref (ad θ 0)] := by
  unfold w_X0_read_b61 at h
  refine X_iconst (v := 0) C dX0_read_61 rfl ?_
  exact t_X0_read_b62 hX hd C hn st x1 0 h
def w_X0_read (st : St) (Φ : St → Int32 → Prop) : Prop := ∀ s1, s1 = putI st 0 34 0 → ∀ s3, s3 = putI s1 0 40 0 → ∀ s5, s5 = putI s3 0 41 0 → w_X1_takes 64 2 s5 (fun (s8 : St) => w_X0_statements s8 (fun (s16 : St) (r15 : Int32) => w_X1_takes 2 64 s16 (fun (s30 : St) => (((sI s30 0 43) = 0) → w_X0_read_b61 Φ s30 r15) ∧ ((¬ (sI s30 0 43) = 0) → (((sI s30 0 41) ≠ 0) → w_X0_read_b61 Φ s30 r15) ∧ (((sI s30 0 41) = 0) → w_X0_read_b62 Φ s30 r15 1)))) (fun (s17 : St) (a18 : Nat) => ∀ s21, s21 = putI s17 0 33 0 → Φ s21 ((-1) - (sI s21 a18 6))))
theorem e_X0_read : plainFor yX0_read = true := plainFor_of_name (by decide +kernel)
theorem m_X0_read {θ : Th} {l : Launch} (hl0 : l.stackTraces = false) (hX : LX θ) {d : Nat} (hd : 27 ≤ d) (st : St) {Φ : St → Int32 → Prop} (h : w_X0_read st Φ) : Ct θ l yX0_read (wsW_ yX0_read cX0_read 2 (some Jvm.ClassFile.FieldType.int) [(26, 71, 72, 449)]) d [.ref (ad θ 0)] st (pI Φ, noX) := by
  refine Ct_entryW hl0 e_X0_read (Nat.le_of_ble_eq_true rfl) (fun κ hκ _ C => ?_)
  have hn : ∀ st r, Φ st r → ((pI Φ, noX) : Ph).1 st (some (.int r)) := fun st r q => ⟨r, rfl, q⟩
  change X _ _ _ _ _ [(0, .ref (ad θ 0))] _
  unfold w_X0_read at h
  refine X_aload_n C dX0_read_0 rfl 0 rfl (isRV_r _) ?_
  refine X_iconst (v := 0) C dX0_read_1 rfl ?_
  refine X_putSI (ci := 0) (j := 34) (q := (RX0, TX0, 49)) C rfl (by decide) q294 rfl rfl dX0_read_2 (LX_S hX (k := 0) rfl) rfl rfl rfl ?_
  refine X_nm (fun s1 e2 => ?_)
  have h := h s1 e2
  refine X_aload_n C dX0_read_5 rfl 0 rfl (isRV_r _) ?_
  refine X_iconst (v := 0) C dX0_read_6 rfl ?_
  refine X_putSI (ci := 0) (j := 40) (q := (RX0, TX0, 49)) C rfl (by decide) q300 rfl rfl dX0_read_7 (LX_S hX (k := 0) rfl) rfl rfl rfl ?_
  refine X_nm (fun s3 e4 => ?_)
  have h := h s3 e4
  refine X_aload_n C dX0_read_10 rfl 0 rfl (isRV_r _) ?_
  refine X_iconst (v := 0) C dX0_read_11 rfl ?_
  refine X_putSI (ci := 0) (j := 41) (q := (RX0, TX0, 49)) C rfl (by decide) q301 rfl rfl dX0_read_12 (LX_S hX (k := 0) rfl) rfl rfl rfl ?_
  refine X_nm (fun s5 e6 => ?_)
  have h := h s5 e6
  refine X_aload_n C dX0_read_15 rfl 0 rfl (isRV_r _) ?_
  refine X_getF (ci := 0) (j := 3) (q := (RX0, TX0, 49)) C rfl (by decide) q263 rfl dX0_read_16 (b := 64) (LX_S hX (k := 0) rfl) (LX_F hX (k := 0) (j := 3) rfl) rfl ?_
  refine X_aload_n C dX0_read_19 rfl 0 rfl (isRV_r _) ?_
  refine X_getF (ci := 0) (j := 1) (q := (RX0, TX0, 49)) C rfl (by decide) q261 rfl dX0_read_20 (b := 2) (LX_S hX (k := 0) rfl) (LX_F hX (k := 0) (j := 1) rfl) rfl ?_
  refine X_callVS (ci := 1) (q := (RX1, TX1, 10)) (As := [_]) (rest := []) C rfl (LH_0 (LX_H64 hX)) q939 q940 q941 q133 q942 ⟨rfl, nm_X1_takes⟩ rfl dX0_read_23 (m_X1_takes (Cx_l C) (LX_H64 hX) (LX_H2 hX) (d := d - 1) (by omega) s5 h) (by omega) (by decide) (Nat.le_of_ble_eq_true rfl) (fun s8 w9 hE10 hP11 => ?_) (fun s14 E12 q13 hE10 hP11 => ?_)
  rotate_left
  · exact False.elim hP11
  obtain ⟨rfl, h⟩ := hP11
  refine X_tln ?_
  refine X_aload_n C dX0_read_26 rfl 0 rfl (isRV_r _) ?_
  refine X_callVS (ci := 0) (q := (RX0, TX0, 49)) (As := []) (rest := []) C rfl (LX_S hX (k := 0) rfl) q946 q948 qs38 q132 q949 ⟨rfl, nm_X0_statements⟩ rfl dX0_read_27 (m_X0_statements (Cx_l C) hX (d := d - 1) (by omega) s8 h) (by omega) (by decide) (Nat.le_of_ble_eq_true rfl) (fun s16 w23 hE24 hP25 => ?_) (fun s28 E26 q27 hE24 hP25 => ?_)
  rotate_left
  · rcases hP25 with ⟨rfl, a_, rfl, hb_, hs_, h⟩
    refine XT_catch C [] ⟨26, 71, 72, 449⟩ [] rfl (fun _ h => absurd h List.not_mem_nil) (by decide) (by decide) q938 q1149 ?_
    refine X_astore_n C dX0_read_72 rfl (isRV_r _) (lo2 := [(1, _), (0, _)]) (by decide) rfl ?_
    refine X_aload_n C dX0_read_73 rfl 1 rfl (isRV_r _) ?_
    refine X_iconst (v := 0) C dX0_read_74 rfl ?_
    refine X_putSI (ci := 0) (j := 33) (q := (RX0, TX0, 49)) C rfl (by decide) q293 rfl rfl dX0_read_75 (LX_S hX (k := 0) rfl) rfl rfl rfl ?_
    refine X_nm (fun s21 e22 => ?_)
    have h := h s21 e22
    have hs_ : sh s21 a_ = 7 := by rw [e22]; exact hs_
    refine X_iconst (v := (-1)) C dX0_read_78 rfl ?_
    refine X_aload_n C dX0_read_79 rfl 0 rfl (isRV_r _) ?_
    refine X_get (ci := 6) (j := 6) (q := (RX6, TX6, 7)) C rfl (by decide) q1161 rfl dX0_read_80 hs_ (v := .int (sI s21 a_ 6)) rfl ?_
    refine X_isub C dX0_read_83 ?_
    exact X_iret C rfl dX0_read_84 (hn s21 _ h)
  obtain ⟨r15, rfl, h⟩ := hP25
  refine X_tls ?_
  refine X_istore_n C dX0_read_30 rfl (lo2 := [(1, _), (0, _)]) (by decide) rfl ?_
  refine X_aload_n C dX0_read_31 rfl 1 rfl (isRV_r _) ?_
  refine X_getF (ci := 0) (j := 1) (q := (RX0, TX0, 49)) C rfl (by decide) q261 rfl dX0_read_32 (b := 2) (LX_S hX (k := 0) rfl) (LX_F hX (k := 0) (j := 1) rfl) rfl ?_
  refine X_aload_n C dX0_read_35 rfl 1 rfl (isRV_r _) ?_
  refine X_getF (ci := 0) (j := 3) (q := (RX0, TX0, 49)) C rfl (by decide) q263 rfl dX0_read_36 (b := 64) (LX_S hX (k := 0) rfl) (LX_F hX (k := 0) (j := 3) rfl) rfl ?_
  refine X_callVS (ci := 1) (q := (RX1, TX1, 10)) (As := [_]) (rest := []) C rfl (LH_0 (LX_H2 hX)) q939 q940 q941 q133 q942 ⟨rfl, nm_X1_takes⟩ rfl dX0_read_39 (m_X1_takes (Cx_l C) (LX_H2 hX) (LX_H64 hX) (d := d - 1) (by omega) s16 h) (by omega) (by decide) (Nat.le_of_ble_eq_true rfl) (fun s30 w31 hE32 hP33 => ?_) (fun s36 E34 q35 hE32 hP33 => ?_)
  rotate_left
  · exact False.elim hP33
  obtain ⟨rfl, h⟩ := hP33
  refine X_tln ?_
  refine X_aload_n C dX0_read_42 rfl 1 rfl (isRV_r _) ?_
  refine X_aload_n C dX0_read_43 rfl 1 rfl (isRV_r _) ?_
  refine X_getS (ci := 0) (j := 43) (q := (RX0, TX0, 49)) C rfl (by decide) q303 rfl dX0_read_44 (LX_S hX (k := 0) rfl) (v := .int (sI s30 0 43)) rfl ?_
  refine X_if_eq (tgt := 61) C dX0_read_47 (by decide) (fun c37 => ?_) (fun c37 => ?_)
  · have h := h.1 c37
    refine X_sub [1, 0] (lo2 := [(0, _), (1, _)]) rfl ?_
    exact t_X0_read_b61 hX hd C hn s30 r15 h
  · have h := h.2 c37
    refine X_aload_n C dX0_read_50 rfl 1 rfl (isRV_r _) ?_
    refine X_getS (ci := 0) (j := 41) (q := (RX0, TX0, 49)) C rfl (by decide) q301 rfl dX0_read_51 (LX_S hX (k := 0) rfl) (v := .int (sI s30 0 41)) rfl ?_
    refine X_if_ne (tgt := 61) C dX0_read_54 (by decide) (fun c43 => ?_) (fun c43 => ?_)
    · have h := h.1 c43
      refine X_sub [1, 0] (lo2 := [(0, _), (1, _)]) rfl ?_
      exact t_X0_read_b61 hX hd C hn s30 r15 h
    · have h := h.2 c43
      refine X_iconst (v := 1) C dX0_read_57 rfl ?_
      refine X_goto (tgt := 62) C dX0_read_58 (by decide) ?_
      refine X_sub [1, 0] (lo2 := [(0, _), (1, _)]) rfl ?_
      exact t_X0_read_b62 hX hd C hn s30 r15 1 h

theorem nm_X0_tree : yX0_tree.cls ≠ "java/lang/invoke/MethodHandle" ∧ yX0_tree.cls ≠ "java/lang/invoke/VarHandle" ∧ (parseMethodDescriptor yX0_tree.desc).map (fun d => d.parameters.length) = some 1 := by decide +kernel
def w_X0_tree (st : St) (p1 : Int32) (Φ : St → Int32 → Prop) : Prop := w_X0_in p1.toInt64 0 3 (fun (r1 : Int32) => w_X0_must st r1 (fun (s10 : St) => w_X0_mustGrow s10 (fun (s30 : St) => (p1 = 0 → ∃ r49, (sR s30 2 7) = some r49 ∧ r49 < gBIG ∧ sh s30 r49 = 8 ∧ (w_X7_nodes_f 8) s30 r49 (fun (r53 : Int32) => Φ s30 r53)) ∧ (p1 = 1 → ∃ r62, (sR s30 2 7) = some r62 ∧ r62 < gBIG ∧ sh s30 r62 = 8 ∧ (w_X7_leaves_f 8) s30 r62 (fun (r66 : Int32) => Φ s30 r66)) ∧ (p1 = 2 → ∃ r75, (sR s30 2 7) = some r75 ∧ r75 < gBIG ∧ sh s30 r75 = 8 ∧ (w_X7_depth_f 8) s30 r75 (fun (r79 : Int32) => Φ s30 r79)) ∧ (p1.toInt < 0 ∨ 2 < p1.toInt → ∃ r88, (sR s30 2 7) = some r88 ∧ r88 < gBIG ∧ sh s30 r88 = 8 ∧ Φ s30 (sI s30 r88 0))) (fun (s31 : St) (a32 : Nat) => w_X0_answers s31 a32 (fun (s36 : St) (r35 : Int32) => Φ s36 r35))) (fun (s11 : St) (a12 : Nat) => w_X0_answers s11 a12 (fun (s16 : St) (r15 : Int32) => Φ s16 r15)))
theorem e_X0_tree : plainFor yX0_tree = true := plainFor_of_name (by decide +kernel)
theorem m_X0_tree {θ : Th} {l : Launch} (hl0 : l.stackTraces = false) (hX : LX θ) {d : Nat} (hd : 10 ≤ d) (st : St) (p1 : Int32) {Φ : St → Int32 → Prop} (h : w_X0_tree st p1 Φ) : Ct θ l yX0_tree (wsW_ yX0_tree cX0_tree 3 (some Jvm.ClassFile.FieldType.int) [(0, 93, 94, 1)]) d [.ref (ad θ 0), .int p1] st (pI Φ, noX) := by
  refine Ct_entryW hl0 e_X0_tree (Nat.le_of_ble_eq_true rfl) (fun κ hκ _ C => ?_)
  have hn : ∀ st r, Φ st r → ((pI Φ, noX) : Ph).1 st (some (.int r)) := fun st r q => ⟨r, rfl, q⟩
  change X _ _ _ _ _ [(0, .ref (ad θ 0)), (1, .int p1)] _
  unfold w_X0_tree at h
  refine X_iload_n C dX0_tree_0 rfl 1 rfl ?_
  refine X_i2l C dX0_tree_1 ?_
  refine X_lconst (v := 0) C dX0_tree_2 rfl ?_
  refine X_ldc2 C q414 dX0_tree_3 ?_
  refine X_callS (As := [_, _, _]) (rest := []) C q415 q416 q132 q417 nm_X0_in rfl dX0_tree_6 (m_X0_in (Cx_l C) (d := d - 1) (by omega) st p1.toInt64 0 3 h) (by omega) (by decide) (Nat.le_of_ble_eq_true rfl) (fun s7 w2 hE3 hP4 => ?_) (fun s8 E5 q6 hE3 hP4 => ?_)
  rotate_left
  · exact False.elim hP4
  obtain ⟨r1, rfl, rfl, h⟩ := hP4
  refine X_tls ?_
  refine X_callS (As := [_]) (rest := []) C q418 q419 q132 q420 nm_X0_must rfl dX0_tree_9 (m_X0_must (Cx_l C) hX (d := d - 1) (by omega) st r1 h) (by omega) (by decide) (Nat.le_of_ble_eq_true rfl) (fun s10 w23 hE24 hP25 => ?_) (fun s28 E26 q27 hE24 hP25 => ?_)
  rotate_left
  · rcases hP25 with ⟨rfl, a_, rfl, hb_, hs_, h⟩
    refine XT_catch C [] ⟨0, 93, 94, 1⟩ [] rfl (fun _ h => absurd h List.not_mem_nil) (by decide) (by decide) q412 q425 ?_
    refine X_astore_n C dX0_tree_94 rfl (isRV_r _) (lo2 := [(2, _), (0, _), (1, _)]) (by decide) rfl ?_
    refine X_aload_n C dX0_tree_95 rfl 1 rfl (isRV_r _) ?_
    refine X_aload_n C dX0_tree_96 rfl 0 rfl (isRV_r _) ?_
    refine X_callVS (ci := 0) (q := (RX0, TX0, 49)) (As := [_]) (rest := []) C rfl (LX_S hX (k := 0) rfl) q512 q514 qs4 q132 q515 ⟨rfl, nm_X0_answers⟩ rfl dX0_tree_97 (m_X0_answers (Cx_l C) hX (d := d - 1) (by omega) s28 a_ hs_ hb_ h) (by omega) (by decide) (Nat.le_of_ble_eq_true rfl) (fun s16 w17 hE18 hP19 => ?_) (fun s22 E20 q21 hE18 hP19 => ?_)
    rotate_left
    · exact False.elim hP19
    obtain ⟨r15, rfl, h⟩ := hP19
    refine X_tls ?_
    have hs_ := Ext_sh hE18 hs_ (by decide)
    exact X_iret C rfl dX0_tree_100 (hn s16 _ h)
  obtain ⟨rfl, h⟩ := hP25
  refine X_tln ?_
  refine X_aload_n C dX0_tree_12 rfl 0 rfl (isRV_r _) ?_
  refine X_callVS (ci := 0) (q := (RX0, TX0, 49)) (As := []) (rest := []) C rfl (LX_S hX (k := 0) rfl) q1307 q1309 qs51 q132 q1310 ⟨rfl, nm_X0_mustGrow⟩ rfl dX0_tree_13 (m_X0_mustGrow (Cx_l C) hX (d := d - 1) (by omega) s10 h) (by omega) (by decide) (Nat.le_of_ble_eq_true rfl) (fun s30 w43 hE44 hP45 => ?_) (fun s48 E46 q47 hE44 hP45 => ?_)
  rotate_left
  · rcases hP45 with ⟨rfl, a_, rfl, hb_, hs_, h⟩
    refine XT_catch C [] ⟨0, 93, 94, 1⟩ [] rfl (fun _ h => absurd h List.not_mem_nil) (by decide) (by decide) q412 q425 ?_
    refine X_astore_n C dX0_tree_94 rfl (isRV_r _) (lo2 := [(2, _), (0, _), (1, _)]) (by decide) rfl ?_
    refine X_aload_n C dX0_tree_95 rfl 1 rfl (isRV_r _) ?_
    refine X_aload_n C dX0_tree_96 rfl 0 rfl (isRV_r _) ?_
    refine X_callVS (ci := 0) (q := (RX0, TX0, 49)) (As := [_]) (rest := []) C rfl (LX_S hX (k := 0) rfl) q512 q514 qs4 q132 q515 ⟨rfl, nm_X0_answers⟩ rfl dX0_tree_97 (m_X0_answers (Cx_l C) hX (d := d - 1) (by omega) s48 a_ hs_ hb_ h) (by omega) (by decide) (Nat.le_of_ble_eq_true rfl) (fun s36 w37 hE38 hP39 => ?_) (fun s42 E40 q41 hE38 hP39 => ?_)
    rotate_left
    · exact False.elim hP39
    obtain ⟨r35, rfl, h⟩ := hP39
    refine X_tls ?_
    have hs_ := Ext_sh hE38 hs_ (by decide)
    exact X_iret C rfl dX0_tree_100 (hn s36 _ h)
  obtain ⟨rfl, h⟩ := hP45
  refine X_tln ?_
  refine X_iload_n C dX0_tree_16 rfl 1 rfl ?_
  by_cases c61 : p1 = 0
  · have h := h.1 c61
    refine X_tableIn (tgt := 44) C dX0_tree_17 (by rw [c61]; decide) (by rw [c61]; decide) (off := 27) (by rw [c61]; rfl) (by decide) ?_
    refine X_aload_n C dX0_tree_44 rfl 0 rfl (isRV_r _) ?_
    refine X_getF (ci := 0) (j := 1) (q := (RX0, TX0, 49)) C rfl (by decide) q261 rfl dX0_tree_45 (b := 2) (LX_S hX (k := 0) rfl) (LX_F hX (k := 0) (j := 1) rfl) rfl ?_
    refine X_getNS (ci := 1) (j := 7) (q := (RX1, TX1, 10)) C rfl (by decide) q203 rfl dX0_tree_48 (LH_0 (LX_H2 hX)) (v := rv θ (sR s30 2 7)) rfl ?_
    obtain ⟨r49, q50, hb52, hs51, h⟩ := h
    rw [q50]
    refine X_tor ?_
    refine X_callV (ci := 7) (q := (RX7, TX7, 4)) (As := []) (rest := []) C rfl hs51 q1311 q1312 q1313 q158 q1314 ⟨rfl, nm_X7_nodes⟩ rfl dX0_tree_51 (m_X7_nodes_f (Cx_l C) hX 8 (d := d - 1) (by omega) s30 r49 hs51 hb52 h) (by omega) (by decide) (Nat.le_of_ble_eq_true rfl) (fun s59 w54 hE55 hP56 => ?_) (fun s60 E57 q58 hE55 hP56 => ?_)
    rotate_left
    · exact False.elim hP56
    obtain ⟨r53, rfl, rfl, h⟩ := hP56
    refine X_tls ?_
    refine X_goto (tgt := 93) C dX0_tree_54 (by decide) ?_
    exact X_iret C rfl dX0_tree_93 (hn s30 _ h)
  have h := h.2
  by_cases c74 : p1 = 1
  · have h := h.1 c74
    refine X_tableIn (tgt := 57) C dX0_tree_17 (by rw [c74]; decide) (by rw [c74]; decide) (off := 40) (by rw [c74]; rfl) (by decide) ?_
    refine X_aload_n C dX0_tree_57 rfl 0 rfl (isRV_r _) ?_
    refine X_getF (ci := 0) (j := 1) (q := (RX0, TX0, 49)) C rfl (by decide) q261 rfl dX0_tree_58 (b := 2) (LX_S hX (k := 0) rfl) (LX_F hX (k := 0) (j := 1) rfl) rfl ?_
    refine X_getNS (ci := 1) (j := 7) (q := (RX1, TX1, 10)) C rfl (by decide) q203 rfl dX0_tree_61 (LH_0 (LX_H2 hX)) (v := rv θ (sR s30 2 7)) rfl ?_
    obtain ⟨r62, q63, hb65, hs64, h⟩ := h
    rw [q63]
    refine X_tor ?_
    refine X_callV (ci := 7) (q := (RX7, TX7, 4)) (As := []) (rest := []) C rfl hs64 q1316 q1317 q1318 q158 q1319 ⟨rfl, nm_X7_leaves⟩ rfl dX0_tree_64 (m_X7_leaves_f (Cx_l C) hX 8 (d := d - 1) (by omega) s30 r62 hs64 hb65 h) (by omega) (by decide) (Nat.le_of_ble_eq_true rfl) (fun s72 w67 hE68 hP69 => ?_) (fun s73 E70 q71 hE68 hP69 => ?_)
    rotate_left
    · exact False.elim hP69
    obtain ⟨r66, rfl, rfl, h⟩ := hP69
    refine X_tls ?_
    refine X_goto (tgt := 93) C dX0_tree_67 (by decide) ?_
    exact X_iret C rfl dX0_tree_93 (hn s30 _ h)
  have h := h.2
  by_cases c87 : p1 = 2
  · have h := h.1 c87
    refine X_tableIn (tgt := 70) C dX0_tree_17 (by rw [c87]; decide) (by rw [c87]; decide) (off := 53) (by rw [c87]; rfl) (by decide) ?_
    refine X_aload_n C dX0_tree_70 rfl 0 rfl (isRV_r _) ?_
    refine X_getF (ci := 0) (j := 1) (q := (RX0, TX0, 49)) C rfl (by decide) q261 rfl dX0_tree_71 (b := 2) (LX_S hX (k := 0) rfl) (LX_F hX (k := 0) (j := 1) rfl) rfl ?_
    refine X_getNS (ci := 1) (j := 7) (q := (RX1, TX1, 10)) C rfl (by decide) q203 rfl dX0_tree_74 (LH_0 (LX_H2 hX)) (v := rv θ (sR s30 2 7)) rfl ?_
    obtain ⟨r75, q76, hb78, hs77, h⟩ := h
    rw [q76]
    refine X_tor ?_
    refine X_callV (ci := 7) (q := (RX7, TX7, 4)) (As := []) (rest := []) C rfl hs77 q1321 q1322 q1323 q158 q1324 ⟨rfl, nm_X7_depth⟩ rfl dX0_tree_77 (m_X7_depth_f (Cx_l C) hX 8 (d := d - 1) (by omega) s30 r75 hs77 hb78 h) (by omega) (by decide) (Nat.le_of_ble_eq_true rfl) (fun s85 w80 hE81 hP82 => ?_) (fun s86 E83 q84 hE81 hP82 => ?_)
    rotate_left
    · exact False.elim hP82
    obtain ⟨r79, rfl, rfl, h⟩ := hP82
    refine X_tls ?_
    refine X_goto (tgt := 93) C dX0_tree_80 (by decide) ?_
    exact X_iret C rfl dX0_tree_93 (hn s30 _ h)
  have h := h.2
  have c92 : p1.toInt < 0 ∨ 2 < p1.toInt := by
    have qc61 := ne_toInt c61
    have qc74 := ne_toInt c74
    have qc87 := ne_toInt c87
    simp only [Int32.reduceToInt] at qc61 qc74 qc87
    omega
  refine X_tableOut (tgt := 83) C dX0_tree_17 c92 (by decide) ?_
  have h := h c92
  refine X_aload_n C dX0_tree_83 rfl 0 rfl (isRV_r _) ?_
  refine X_getF (ci := 0) (j := 1) (q := (RX0, TX0, 49)) C rfl (by decide) q261 rfl dX0_tree_84 (b := 2) (LX_S hX (k := 0) rfl) (LX_F hX (k := 0) (j := 1) rfl) rfl ?_
  refine X_getNS (ci := 1) (j := 7) (q := (RX1, TX1, 10)) C rfl (by decide) q203 rfl dX0_tree_87 (LH_0 (LX_H2 hX)) (v := rv θ (sR s30 2 7)) rfl ?_
  obtain ⟨r88, q91, hb90, hs89, h⟩ := h
  rw [q91]
  refine X_tor ?_
  refine X_get (ci := 7) (j := 0) (q := (RX7, TX7, 4)) C rfl (by decide) q1266 rfl dX0_tree_90 hs89 (v := .int (sI s30 r88 0)) rfl ?_
  exact X_iret C rfl dX0_tree_93 (hn s30 _ h)

theorem nm_X0_weightUnder : yX0_weightUnder.cls ≠ "java/lang/invoke/MethodHandle" ∧ yX0_weightUnder.cls ≠ "java/lang/invoke/VarHandle" ∧ (parseMethodDescriptor yX0_weightUnder.desc).map (fun d => d.parameters.length) = some 2 := by decide +kernel
def w_X0_weightUnder (st : St) (p1 : Nat) (p2 : Int32) (Φ : St → Nat → Prop) (Φa : St → Prop) : Prop := w_X0_splitsBy 2 st p1 (fun (s2 : St) (r1 : Int32) => sN s2 + 1 ≤ gCAP ∧ sS s2 + 2 ≤ gCAPS ∧ ∀ s11, s11 = mk s2 3 2 → w_X2_init s11 (sN s2) (fun (s17 : St) => vp_in p2 3 ∧ w_X2_as s17 (sN s2) (164 + 2 * p2.toNatClampNeg) (fun (s28 : St) (r27 : Nat) => Φ s28 r27))) Φa
theorem e_X0_weightUnder : plainFor yX0_weightUnder = true := plainFor_of_name (by decide +kernel)
theorem m_X0_weightUnder {θ : Th} {l : Launch} (hl0 : l.stackTraces = false) (hX : LX θ) {d : Nat} (hd : 4 ≤ d) (st : St) (p1 : Nat) (p2 : Int32) (hs_p1 : sh st p1 = 8) (hb_p1 : p1 < gBIG) {Φ : St → Nat → Prop} {Φa : St → Prop} (h : w_X0_weightUnder st p1 p2 Φ Φa) : Ct θ l yX0_weightUnder (ws_ yX0_weightUnder cX0_weightUnder 4 (some (Jvm.ClassFile.FieldType.object "SecretsWorth$Ratio"))) d [.ref (ad θ 0), .ref (ad θ p1), .int p2] st (pN θ 3 Φ, (exA Φa)) := by
  refine Ct_entry hl0 e_X0_weightUnder (Nat.le_of_ble_eq_true rfl) (fun κ hκ _ C => ?_)
  have hn : ∀ st r, r < gBIG → sh st r = 3 → Φ st r → ((pN θ 3 Φ, (exA Φa)) : Ph).1 st (some (.ref (ad θ r))) := fun st r q1 q2 q => ⟨r, rfl, q1, q2, q⟩
  have ha : ∀ st q, Φa st → ((pN θ 3 Φ, (exA Φa)) : Ph).2 st "java/lang/ArithmeticException" q := fun st q2 q => ⟨rfl, q⟩
  change X _ _ _ _ _ [(0, .ref (ad θ 0)), (1, .ref (ad θ p1)), (2, .int p2)] _
  unfold w_X0_weightUnder at h
  refine X_aload_n C dX0_weightUnder_0 rfl 0 rfl (isRV_r _) ?_
  refine X_aload_n C dX0_weightUnder_1 rfl 0 rfl (isRV_r _) ?_
  refine X_getF (ci := 0) (j := 1) (q := (RX0, TX0, 49)) C rfl (by decide) q261 rfl dX0_weightUnder_2 (b := 2) (LX_S hX (k := 0) rfl) (LX_F hX (k := 0) (j := 1) rfl) rfl ?_
  refine X_aload_n C dX0_weightUnder_5 rfl 1 rfl (isRV_r _) ?_
  refine X_callVS (ci := 0) (q := (RX0, TX0, 49)) (As := [_, _]) (rest := []) C rfl (LX_S hX (k := 0) rfl) q1295 q1297 qs50 q132 q1298 ⟨rfl, nm_X0_splitsBy⟩ rfl dX0_weightUnder_6 (m_X0_splitsBy (Cx_l C) hX (LX_H2 hX) (d := d - 1) (by omega) st p1 hs_p1 hb_p1 h) (by omega) (by decide) (Nat.le_of_ble_eq_true rfl) (fun s2 w3 hE4 hP5 => ?_) (fun s8 E6 q7 hE4 hP5 => ?_)
  rotate_left
  · rcases hP5 with ⟨rfl, h⟩
    exact XT_out C rfl (ha s8 q7 h)
  obtain ⟨r1, rfl, h⟩ := hP5
  refine X_tls ?_
  have hs_p1 := Ext_sh hE4 hs_p1 (by decide)
  refine X_istore_n C dX0_weightUnder_9 rfl (lo2 := [(3, _), (0, _), (1, _), (2, _)]) (by decide) rfl ?_
  have g9 := h.1
  have h := h.2
  have g10 := h.1
  have h := h.2
  refine X_new (ci := 2) (q := (RX2, TX2, 2)) C rfl q232 q234 q134 g9 g10 dX0_weightUnder_10 (fun hE13 => ?_)
  refine X_nm (fun s11 e12 => ?_)
  have h := h s11 e12
  rw [← e12] at hE13
  have hs_p1 := Ext_sh hE13 hs_p1 (by decide)
  have hs14 : sh s11 (sN s2) = 3 := by rw [e12]; exact sh_mk
  have hb15 := nb_N g9
  refine X_dup C dX0_weightUnder_13 rfl ?_
  refine X_callIN (As := []) (rest := [_]) C q235 q236 q134 q237 rfl nm_X2_init rfl dX0_weightUnder_14 (m_X2_init (Cx_l C) (d := d - 1) (by omega) s11 (sN s2) hs14 hb15 h) (by omega) (by decide) (Nat.le_of_ble_eq_true rfl) (fun s17 w18 hE19 hP20 => ?_) (fun s23 E21 q22 hE19 hP20 => ?_)
  rotate_left
  · exact False.elim hP20
  obtain ⟨rfl, h⟩ := hP20
  refine X_tln ?_
  have hs_p1 := Ext_sh hE19 hs_p1 (by decide)
  have hs14 := Ext_sh hE19 hs14 (by decide)
  refine X_aload_n C dX0_weightUnder_17 rfl 1 rfl (isRV_r _) ?_
  refine X_getF (ci := 0) (j := 19) (q := (RX0, TX0, 49)) C rfl (by decide) q279 rfl dX0_weightUnder_18 (b := 134) (LX_S hX (k := 0) rfl) (LX_F hX (k := 0) (j := 19) rfl) rfl ?_
  refine X_iload_n C dX0_weightUnder_21 rfl 3 rfl ?_
  have g24 := h.1
  have h := h.2
  refine X_aaldF C 9 rfl (LX_S hX (k := 134) rfl) (by decide) rfl (LX_L hX (k := 134) rfl) g24 rfl (b := (164 + 2 * p2.toNatClampNeg)) (LXf_weight hX (i := p2.toNatClampNeg) (in_lt g24)).2 dX0_weightUnder_22 rfl ?_
  refine X_sh (LXf_weight hX (i := p2.toNatClampNeg) (in_lt g24)).1 (by decide) (fun hs25 hb26 => ?_)
  refine X_callV (ci := 2) (q := (RX2, TX2, 2)) (As := [_]) (rest := []) C rfl hs14 q798 q799 q800 q134 q801 ⟨rfl, nm_X2_as⟩ rfl dX0_weightUnder_23 (m_X2_as (Cx_l C) (d := d - 1) (by omega) s17 (sN s2) (164 + 2 * p2.toNatClampNeg) hs14 hb15 hs25 hb26 h) (by omega) (by decide) (Nat.le_of_ble_eq_true rfl) (fun s28 w29 hE30 hP31 => ?_) (fun s34 E32 q33 hE30 hP31 => ?_)
  rotate_left
  · exact False.elim hP31
  obtain ⟨r27, rfl, hb35, hs36, h⟩ := hP31
  refine X_tls ?_
  have hs_p1 := Ext_sh hE30 hs_p1 (by decide)
  have hs14 := Ext_sh hE30 hs14 (by decide)
  exact X_aret C rfl (Or.inl ⟨_, rfl⟩) (isRV_r _) dX0_weightUnder_26 (hn s28 _ hb35 hs36 h)

theorem nm_X0_nodeWorth : yX0_nodeWorth.cls ≠ "java/lang/invoke/MethodHandle" ∧ yX0_nodeWorth.cls ≠ "java/lang/invoke/VarHandle" ∧ (parseMethodDescriptor yX0_nodeWorth.desc).map (fun d => d.parameters.length) = some 2 := by decide +kernel
def w_X0_nodeWorth_l68 (rec : St → Nat → Int32 → (St → Nat → Prop) → (St → Prop) → Prop) (Φ : St → Nat → Prop) (Φa : St → Prop) (E136 : St → Nat → Prop) : Nat → St → Nat → Int32 → Nat → Int32 → Prop
  | 0, _, _, _, _, _ => False
  | n + 1, st, x1, x2, x3, x4 => (((sI st x1 3) ≤ x4) → E136 st x3) ∧ ((¬ (sI st x1 3) ≤ x4) → ∃ r18, (sR st x1 2) = some r18 ∧ r18 < gBIG ∧ sh st r18 = 116 ∧ vp_in x4 (ln st r18) ∧ ∃ r23, (sR st r18 x4.toNatClampNeg) = some r23 ∧ r23 < gBIG ∧ sh st r23 = 8 ∧ rec st r23 x2 (fun (s28 : St) (r27 : Nat) => w_X0_weightUnder s28 x1 x4 (fun (s38 : St) (r37 : Nat) => w_X2_times s38 141 r37 r27 (fun (s50 : St) (r49 : Nat) => w_X2_add s50 142 x3 141 (fun (s64 : St) (r63 : Nat) => w_X2_as s64 x3 142 (fun (s76 : St) (r75 : Nat) => w_X0_nodeWorth_l68 rec Φ Φa E136 n s76 x1 x2 x3 (x4 + 1))) Φa) Φa) Φa) Φa)
theorem t_X0_nodeWorth_l68 {θ : Th} {κ : Kx} {Ph : Ph} (hX : LX θ) {rec : St → Nat → Int32 → (St → Nat → Prop) → (St → Prop) → Prop} {dR : Nat} (hrec : ∀ {d : Nat}, dR ≤ d → ∀ (st : St) (p1 : Nat) (p2 : Int32), sh st p1 = 8 → p1 < gBIG → ∀ {Φ : St → Nat → Prop} {Φa : St → Prop}, rec st p1 p2 Φ Φa → Ct θ κ.2.1 yX0_nodeWorth (ws_ yX0_nodeWorth cX0_nodeWorth 6 (some (Jvm.ClassFile.FieldType.object "SecretsWorth$Ratio"))) d [.ref (ad θ 0), .ref (ad θ p1), .int p2] st (pN θ 3 Φ, (exA Φa))) {d : Nat} (hd : 5 ≤ d) (hdR : dR + 1 ≤ d) (C : Cx θ κ yX0_nodeWorth cX0_nodeWorth 6 (some (Jvm.ClassFile.FieldType.object "SecretsWorth$Ratio")) [] d) {Φ : St → Nat → Prop} {Φa : St → Prop} (hn : ∀ st r, r < gBIG → sh st r = 3 → Φ st r → Ph.1 st (some (.ref (ad θ r)))) (ha : ∀ st q, Φa st → Ph.2 st "java/lang/ArithmeticException" q) {E136 : St → Nat → Prop} (hE136 : ∀ (st : St) (x3 : Nat), sh st x3 = 3 → x3 < gBIG → E136 st x3 → X θ κ Ph st 136 [(3, .ref (ad θ x3))] []) : ∀ (n : Nat) (st : St) (x1 : Nat) (x2 : Int32) (x3 : Nat) (x4 : Int32), sh st x1 = 8 → x1 < gBIG → sh st x3 = 3 → x3 < gBIG → w_X0_nodeWorth_l68 rec Φ Φa E136 n st x1 x2 x3 x4 → X θ κ Ph st 68 [(0, .ref (ad θ 0)), (1, .ref (ad θ x1)), (2, .int x2), (3, .ref (ad θ x3)), (4, .int x4)] [] := by
  intro n
  induction n with
  | zero => intro st x1 x2 x3 x4 hs_x1 hb_x1 hs_x3 hb_x3 h; exact h.elim
  | succ n hK68 =>
    intro st x1 x2 x3 x4 hs_x1 hb_x1 hs_x3 hb_x3 h
    rw [w_X0_nodeWorth_l68] at h
    refine X_iload C dX0_nodeWorth_68 4 rfl ?_
    refine X_aload_n C dX0_nodeWorth_70 rfl 1 rfl (isRV_r _) ?_
    refine X_get (ci := 7) (j := 3) (q := (RX7, TX7, 4)) C rfl (by decide) q1272 rfl dX0_nodeWorth_71 hs_x1 (v := .int (sI st x1 3)) rfl ?_
    refine X_icmp_ge (tgt := 136) C dX0_nodeWorth_74 (by decide) (fun c17 => ?_) (fun c17 => ?_)
    · have h := h.1 c17
      refine X_sub [3] (lo2 := [(3, _)]) rfl ?_
      exact hE136 st x3 hs_x3 hb_x3 h
    · have h := h.2 c17
      refine X_aload_n C dX0_nodeWorth_77 rfl 0 rfl (isRV_r _) ?_
      refine X_aload_n C dX0_nodeWorth_78 rfl 1 rfl (isRV_r _) ?_
      refine X_get (ci := 7) (j := 2) (q := (RX7, TX7, 4)) C rfl (by decide) q1270 rfl dX0_nodeWorth_79 hs_x1 (v := rv θ (sR st x1 2)) rfl ?_
      obtain ⟨r18, q19, hb21, hs20, h⟩ := h
      rw [q19]
      refine X_tor ?_
      refine X_iload C dX0_nodeWorth_82 4 rfl ?_
      have g22 := h.1
      have h := h.2
      refine X_aaldD (t := 116) C 11 rfl hs20 (by decide) rfl rfl g22 rfl rfl dX0_nodeWorth_84 ?_
      obtain ⟨r23, q24, hb26, hs25, h⟩ := h
      rw [q24]
      refine X_tor ?_
      refine X_iload_n C dX0_nodeWorth_85 rfl 2 rfl ?_
      refine X_callVS (ci := 0) (q := (RX0, TX0, 49)) (As := [_, _]) (rest := []) C rfl (LX_S hX (k := 0) rfl) q1331 q1333 qs52 q132 q1334 ⟨rfl, nm_X0_nodeWorth⟩ rfl dX0_nodeWorth_86 (hrec (d := d - 1) (by omega) st r23 x2 hs25 hb26 h) (by omega) (by decide) (Nat.le_of_ble_eq_true rfl) (fun s28 w29 hE30 hP31 => ?_) (fun s34 E32 q33 hE30 hP31 => ?_)
      rotate_left
      · rcases hP31 with ⟨rfl, h⟩
        exact XT_out C rfl (ha s34 q33 h)
      obtain ⟨r27, rfl, hb35, hs36, h⟩ := hP31
      refine X_tls ?_
      have hs_x1 := Ext_sh hE30 hs_x1 (by decide)
      have hs_x3 := Ext_sh hE30 hs_x3 (by decide)
      have hs20 := Ext_sh hE30 hs20 (by decide)
      have hs25 := Ext_sh hE30 hs25 (by decide)
      refine X_astore C dX0_nodeWorth_89 (isRV_r _) (lo2 := [(5, _), (0, _), (1, _), (2, _), (3, _), (4, _)]) (by decide) rfl ?_
      refine X_aload_n C dX0_nodeWorth_91 rfl 1 rfl (isRV_r _) ?_
      refine X_getF (ci := 0) (j := 27) (q := (RX0, TX0, 49)) C rfl (by decide) q287 rfl dX0_nodeWorth_92 (b := 141) (LX_S hX (k := 0) rfl) (LX_F hX (k := 0) (j := 27) rfl) rfl ?_
      refine X_aload_n C dX0_nodeWorth_95 rfl 1 rfl (isRV_r _) ?_
      refine X_aload_n C dX0_nodeWorth_96 rfl 2 rfl (isRV_r _) ?_
      refine X_iload C dX0_nodeWorth_97 5 rfl ?_
      refine X_callVS (ci := 0) (q := (RX0, TX0, 49)) (As := [_, _]) (rest := [_]) C rfl (LX_S hX (k := 0) rfl) q1335 q1337 qs53 q132 q1338 ⟨rfl, nm_X0_weightUnder⟩ rfl dX0_nodeWorth_99 (m_X0_weightUnder (Cx_l C) hX (d := d - 1) (by omega) s28 x1 x4 hs_x1 hb_x1 h) (by omega) (by decide) (Nat.le_of_ble_eq_true rfl) (fun s38 w39 hE40 hP41 => ?_) (fun s44 E42 q43 hE40 hP41 => ?_)
      rotate_left
      · rcases hP41 with ⟨rfl, h⟩
        exact XT_out C rfl (ha s44 q43 h)
      obtain ⟨r37, rfl, hb45, hs46, h⟩ := hP41
      refine X_tls ?_
      have hs_x1 := Ext_sh hE40 hs_x1 (by decide)
      have hs_x3 := Ext_sh hE40 hs_x3 (by decide)
      have hs20 := Ext_sh hE40 hs20 (by decide)
      have hs25 := Ext_sh hE40 hs25 (by decide)
      have hs36 := Ext_sh hE40 hs36 (by decide)
      refine X_aload C dX0_nodeWorth_102 0 rfl (isRV_r _) ?_
      refine X_sh (LX_S hX (k := 141) rfl) (by decide) (fun hs47 hb48 => ?_)
      refine X_callV (ci := 2) (q := (RX2, TX2, 2)) (As := [_, _]) (rest := []) C rfl hs47 q802 q803 q804 q134 q805 ⟨rfl, nm_X2_times⟩ rfl dX0_nodeWorth_104 (m_X2_times (Cx_l C) (d := d - 1) (by omega) s38 141 r37 r27 hs47 hb48 hs46 hb45 hs36 hb35 h) (by omega) (by decide) (Nat.le_of_ble_eq_true rfl) (fun s50 w51 hE52 hP53 => ?_) (fun s56 E54 q55 hE52 hP53 => ?_)
      rotate_left
      · rcases hP53 with ⟨rfl, h⟩
        exact XT_out C rfl (ha s56 q55 h)
      obtain ⟨r49, rfl, hb57, hs58, h⟩ := hP53
      refine X_tls ?_
      have hs_x1 := Ext_sh hE52 hs_x1 (by decide)
      have hs_x3 := Ext_sh hE52 hs_x3 (by decide)
      have hs20 := Ext_sh hE52 hs20 (by decide)
      have hs25 := Ext_sh hE52 hs25 (by decide)
      have hs36 := Ext_sh hE52 hs36 (by decide)
      have hs46 := Ext_sh hE52 hs46 (by decide)
      refine X_pop C dX0_nodeWorth_107 rfl ?_
      refine X_aload_n C dX0_nodeWorth_108 rfl 1 rfl (isRV_r _) ?_
      refine X_getF (ci := 0) (j := 28) (q := (RX0, TX0, 49)) C rfl (by decide) q288 rfl dX0_nodeWorth_109 (b := 142) (LX_S hX (k := 0) rfl) (LX_F hX (k := 0) (j := 28) rfl) rfl ?_
      refine X_aload_n C dX0_nodeWorth_112 rfl 4 rfl (isRV_r _) ?_
      refine X_aload_n C dX0_nodeWorth_113 rfl 1 rfl (isRV_r _) ?_
      refine X_getF (ci := 0) (j := 27) (q := (RX0, TX0, 49)) C rfl (by decide) q287 rfl dX0_nodeWorth_114 (b := 141) (LX_S hX (k := 0) rfl) (LX_F hX (k := 0) (j := 27) rfl) rfl ?_
      refine X_sh (LX_S hX (k := 142) rfl) (by decide) (fun hs59 hb60 => ?_)
      refine X_sh (LX_S hX (k := 141) rfl) (by decide) (fun hs61 hb62 => ?_)
      refine X_callV (ci := 2) (q := (RX2, TX2, 2)) (As := [_, _]) (rest := []) C rfl hs59 q814 q815 q816 q134 q817 ⟨rfl, nm_X2_add⟩ rfl dX0_nodeWorth_117 (m_X2_add (Cx_l C) (d := d - 1) (by omega) s50 142 x3 141 hs59 hb60 hs_x3 hb_x3 hs61 hb62 h) (by omega) (by decide) (Nat.le_of_ble_eq_true rfl) (fun s64 w65 hE66 hP67 => ?_) (fun s70 E68 q69 hE66 hP67 => ?_)
      rotate_left
      · rcases hP67 with ⟨rfl, h⟩
        exact XT_out C rfl (ha s70 q69 h)
      obtain ⟨r63, rfl, hb71, hs72, h⟩ := hP67
      refine X_tls ?_
      have hs_x1 := Ext_sh hE66 hs_x1 (by decide)
      have hs_x3 := Ext_sh hE66 hs_x3 (by decide)
      have hs20 := Ext_sh hE66 hs20 (by decide)
      have hs25 := Ext_sh hE66 hs25 (by decide)
      have hs36 := Ext_sh hE66 hs36 (by decide)
      have hs46 := Ext_sh hE66 hs46 (by decide)
      have hs58 := Ext_sh hE66 hs58 (by decide)
      refine X_pop C dX0_nodeWorth_120 rfl ?_
      refine X_aload_n C dX0_nodeWorth_121 rfl 4 rfl (isRV_r _) ?_
      refine X_aload_n C dX0_nodeWorth_122 rfl 1 rfl (isRV_r _) ?_
      refine X_getF (ci := 0) (j := 28) (q := (RX0, TX0, 49)) C rfl (by decide) q288 rfl dX0_nodeWorth_123 (b := 142) (LX_S hX (k := 0) rfl) (LX_F hX (k := 0) (j := 28) rfl) rfl ?_
      refine X_sh (LX_S hX (k := 142) rfl) (by decide) (fun hs73 hb74 => ?_)
      refine X_callV (ci := 2) (q := (RX2, TX2, 2)) (As := [_]) (rest := []) C rfl hs_x3 q798 q799 q800 q134 q801 ⟨rfl, nm_X2_as⟩ rfl dX0_nodeWorth_126 (m_X2_as (Cx_l C) (d := d - 1) (by omega) s64 x3 142 hs_x3 hb_x3 hs73 hb74 h) (by omega) (by decide) (Nat.le_of_ble_eq_true rfl) (fun s76 w77 hE78 hP79 => ?_) (fun s82 E80 q81 hE78 hP79 => ?_)
      rotate_left
      · exact False.elim hP79
      obtain ⟨r75, rfl, hb83, hs84, h⟩ := hP79
      refine X_tls ?_
      have hs_x1 := Ext_sh hE78 hs_x1 (by decide)
      have hs_x3 := Ext_sh hE78 hs_x3 (by decide)
      have hs20 := Ext_sh hE78 hs20 (by decide)
      have hs25 := Ext_sh hE78 hs25 (by decide)
      have hs36 := Ext_sh hE78 hs36 (by decide)
      have hs46 := Ext_sh hE78 hs46 (by decide)
      have hs58 := Ext_sh hE78 hs58 (by decide)
      have hs72 := Ext_sh hE78 hs72 (by decide)
      refine X_pop C dX0_nodeWorth_129 rfl ?_
      refine X_iinc (v := (x4 + 1)) C (j := 5) dX0_nodeWorth_130 rfl rfl (lo2 := [(4, _), (5, _), (0, _), (1, _), (2, _), (3, _)]) (by decide) rfl ?_
      refine X_goto (tgt := 68) C dX0_nodeWorth_133 (by decide) ?_
      refine X_sub [2, 3, 4, 5, 0] (lo2 := [(0, _), (1, _), (2, _), (3, _), (4, _)]) rfl ?_
      exact hK68 s76 x1 x2 x3 (x4 + 1) hs_x1 hb_x1 hs_x3 hb_x3 h
def w_X0_nodeWorth_b136 (rec : St → Nat → Int32 → (St → Nat → Prop) → (St → Prop) → Prop) (Φ : St → Nat → Prop) (Φa : St → Prop) (st : St) (x3 : Nat) : Prop := Φ st x3
theorem t_X0_nodeWorth_b136 {θ : Th} {κ : Kx} {Ph : Ph} (hX : LX θ) {rec : St → Nat → Int32 → (St → Nat → Prop) → (St → Prop) → Prop} {dR : Nat} (hrec : ∀ {d : Nat}, dR ≤ d → ∀ (st : St) (p1 : Nat) (p2 : Int32), sh st p1 = 8 → p1 < gBIG → ∀ {Φ : St → Nat → Prop} {Φa : St → Prop}, rec st p1 p2 Φ Φa → Ct θ κ.2.1 yX0_nodeWorth (ws_ yX0_nodeWorth cX0_nodeWorth 6 (some (Jvm.ClassFile.FieldType.object "SecretsWorth$Ratio"))) d [.ref (ad θ 0), .ref (ad θ p1), .int p2] st (pN θ 3 Φ, (exA Φa))) {d : Nat} (hd : 5 ≤ d) (hdR : dR + 1 ≤ d) (C : Cx θ κ yX0_nodeWorth cX0_nodeWorth 6 (some (Jvm.ClassFile.FieldType.object "SecretsWorth$Ratio")) [] d) {Φ : St → Nat → Prop} {Φa : St → Prop} (hn : ∀ st r, r < gBIG → sh st r = 3 → Φ st r → Ph.1 st (some (.ref (ad θ r)))) (ha : ∀ st q, Φa st → Ph.2 st "java/lang/ArithmeticException" q) (st : St) (x3 : Nat) (hs_x3 : sh st x3 = 3) (hb_x3 : x3 < gBIG) (h : w_X0_nodeWorth_b136 rec Φ Φa st x3) : X θ κ Ph st 136 [(3, .ref (ad θ x3))] [] := by
  unfold w_X0_nodeWorth_b136 at h
  refine X_aload_n C dX0_nodeWorth_136 rfl 0 rfl (isRV_r _) ?_
  exact X_aret C rfl (Or.inl ⟨_, rfl⟩) (isRV_r _) dX0_nodeWorth_137 (hn st _ hb_x3 hs_x3 h)
def w_X0_nodeWorth_b65 (rec : St → Nat → Int32 → (St → Nat → Prop) → (St → Prop) → Prop) (Φ : St → Nat → Prop) (Φa : St → Prop) (st : St) (x1 : Nat) (x2 : Int32) (x3 : Nat) : Prop := w_X0_nodeWorth_l68 rec Φ Φa (fun (s85 : St) (x3 : Nat) => w_X0_nodeWorth_b136 rec Φ Φa s85 x3) gFU st x1 x2 x3 0
theorem t_X0_nodeWorth_b65 {θ : Th} {κ : Kx} {Ph : Ph} (hX : LX θ) {rec : St → Nat → Int32 → (St → Nat → Prop) → (St → Prop) → Prop} {dR : Nat} (hrec : ∀ {d : Nat}, dR ≤ d → ∀ (st : St) (p1 : Nat) (p2 : Int32), sh st p1 = 8 → p1 < gBIG → ∀ {Φ : St → Nat → Prop} {Φa : St → Prop}, rec st p1 p2 Φ Φa → Ct θ κ.2.1 yX0_nodeWorth (ws_ yX0_nodeWorth cX0_nodeWorth 6 (some (Jvm.ClassFile.FieldType.object "SecretsWorth$Ratio"))) d [.ref (ad θ 0), .ref (ad θ p1), .int p2] st (pN θ 3 Φ, (exA Φa))) {d : Nat} (hd : 5 ≤ d) (hdR : dR + 1 ≤ d) (C : Cx θ κ yX0_nodeWorth cX0_nodeWorth 6 (some (Jvm.ClassFile.FieldType.object "SecretsWorth$Ratio")) [] d) {Φ : St → Nat → Prop} {Φa : St → Prop} (hn : ∀ st r, r < gBIG → sh st r = 3 → Φ st r → Ph.1 st (some (.ref (ad θ r)))) (ha : ∀ st q, Φa st → Ph.2 st "java/lang/ArithmeticException" q) (st : St) (x1 : Nat) (x2 : Int32) (x3 : Nat) (hs_x1 : sh st x1 = 8) (hb_x1 : x1 < gBIG) (hs_x3 : sh st x3 = 3) (hb_x3 : x3 < gBIG) (h : w_X0_nodeWorth_b65 rec Φ Φa st x1 x2 x3) : X θ κ Ph st 65 [(0, .ref (ad θ 0)), (1, .ref (ad θ x1)), (2, .int x2), (3, .ref (ad θ x3))] [] := by
  unfold w_X0_nodeWorth_b65 at h
  refine X_iconst (v := 0) C dX0_nodeWorth_65 rfl ?_
  refine X_istore C dX0_nodeWorth_66 (lo2 := [(4, _), (0, _), (1, _), (2, _), (3, _)]) (by decide) rfl ?_
  refine X_sub [1, 2, 3, 4, 0] (lo2 := [(0, _), (1, _), (2, _), (3, _), (4, _)]) rfl ?_
  refine t_X0_nodeWorth_l68 hX hrec hd hdR C hn ha ?_ gFU st x1 x2 x3 0 hs_x1 hb_x1 hs_x3 hb_x3 h
  · intro s85 x3 hs_x3 hb_x3 h
    exact t_X0_nodeWorth_b136 hX hrec hd hdR C hn ha s85 x3 hs_x3 hb_x3 h
def w_X0_nodeWorth_b61 (rec : St → Nat → Int32 → (St → Nat → Prop) → (St → Prop) → Prop) (Φ : St → Nat → Prop) (Φa : St → Prop) (st : St) (x1 : Nat) (x2 : Int32) (x3 : Nat) (z0 : Nat) (z1 : Nat) : Prop := w_X2_as st z1 z0 (fun (s117 : St) (r116 : Nat) => w_X0_nodeWorth_b65 rec Φ Φa s117 x1 x2 x3)
theorem t_X0_nodeWorth_b61 {θ : Th} {κ : Kx} {Ph : Ph} (hX : LX θ) {rec : St → Nat → Int32 → (St → Nat → Prop) → (St → Prop) → Prop} {dR : Nat} (hrec : ∀ {d : Nat}, dR ≤ d → ∀ (st : St) (p1 : Nat) (p2 : Int32), sh st p1 = 8 → p1 < gBIG → ∀ {Φ : St → Nat → Prop} {Φa : St → Prop}, rec st p1 p2 Φ Φa → Ct θ κ.2.1 yX0_nodeWorth (ws_ yX0_nodeWorth cX0_nodeWorth 6 (some (Jvm.ClassFile.FieldType.object "SecretsWorth$Ratio"))) d [.ref (ad θ 0), .ref (ad θ p1), .int p2] st (pN θ 3 Φ, (exA Φa))) {d : Nat} (hd : 5 ≤ d) (hdR : dR + 1 ≤ d) (C : Cx θ κ yX0_nodeWorth cX0_nodeWorth 6 (some (Jvm.ClassFile.FieldType.object "SecretsWorth$Ratio")) [] d) {Φ : St → Nat → Prop} {Φa : St → Prop} (hn : ∀ st r, r < gBIG → sh st r = 3 → Φ st r → Ph.1 st (some (.ref (ad θ r)))) (ha : ∀ st q, Φa st → Ph.2 st "java/lang/ArithmeticException" q) (st : St) (x1 : Nat) (x2 : Int32) (x3 : Nat) (z0 : Nat) (z1 : Nat) (hs_x1 : sh st x1 = 8) (hb_x1 : x1 < gBIG) (hs_x3 : sh st x3 = 3) (hb_x3 : x3 < gBIG) (hs_z0 : sh st z0 = 3) (hb_z0 : z0 < gBIG) (hs_z1 : sh st z1 = 3) (hb_z1 : z1 < gBIG) (h : w_X0_nodeWorth_b61 rec Φ Φa st x1 x2 x3 z0 z1) : X θ κ Ph st 61 [(0, .ref (ad θ 0)), (1, .ref (ad θ x1)), (2, .int x2), (3, .ref (ad θ x3))] [.ref (ad θ z0), .ref (ad θ z1)] := by
  unfold w_X0_nodeWorth_b61 at h
  refine X_callV (ci := 2) (q := (RX2, TX2, 2)) (As := [_]) (rest := []) C rfl hs_z1 q798 q799 q800 q134 q801 ⟨rfl, nm_X2_as⟩ rfl dX0_nodeWorth_61 (m_X2_as (Cx_l C) (d := d - 1) (by omega) st z1 z0 hs_z1 hb_z1 hs_z0 hb_z0 h) (by omega) (by decide) (Nat.le_of_ble_eq_true rfl) (fun s117 w118 hE119 hP120 => ?_) (fun s123 E121 q122 hE119 hP120 => ?_)
  rotate_left
  · exact False.elim hP120
  obtain ⟨r116, rfl, hb124, hs125, h⟩ := hP120
  refine X_tls ?_
  have hs_x1 := Ext_sh hE119 hs_x1 (by decide)
  have hs_x3 := Ext_sh hE119 hs_x3 (by decide)
  have hs_z0 := Ext_sh hE119 hs_z0 (by decide)
  have hs_z1 := Ext_sh hE119 hs_z1 (by decide)
  refine X_pop C dX0_nodeWorth_64 rfl ?_
  exact t_X0_nodeWorth_b65 hX hrec hd hdR C hn ha s117 x1 x2 x3 hs_x1 hb_x1 hs_x3 hb_x3 h
def w_X0_nodeWorth (rec : St → Nat → Int32 → (St → Nat → Prop) → (St → Prop) → Prop) (st : St) (p1 : Nat) (p2 : Int32) (Φ : St → Nat → Prop) (Φa : St → Prop) : Prop := sN st + 1 ≤ gCAP ∧ sS st + 2 ≤ gCAPS ∧ ∀ s3, s3 = mk st 3 2 → w_X2_init s3 (sN st) (fun (s9 : St) => (((sI s9 p1 1) ≤ 0) → w_X0_nodeWorth_b65 rec Φ Φa s9 p1 p2 (sN st)) ∧ ((¬ (sI s9 p1 1) ≤ 0) → w_X2_is s9 141 (sI s9 p1 1).toInt64 1 (fun (s89 : St) (r88 : Nat) => ((p2 = 0) → vp_in (sI s89 p1 0) 15 ∧ w_X2_times s89 142 141 (149 + (sI s89 p1 0).toNatClampNeg) (fun (s107 : St) (r106 : Nat) => w_X0_nodeWorth_b61 rec Φ Φa s107 p1 p2 (sN st) r106 (sN st)) Φa) ∧ ((¬ p2 = 0) → w_X0_nodeWorth_b61 rec Φ Φa s89 p1 p2 (sN st) 141 (sN st))) Φa))
theorem e_X0_nodeWorth : plainFor yX0_nodeWorth = true := plainFor_of_name (by decide +kernel)
theorem m_X0_nodeWorth {θ : Th} {l : Launch} (hl0 : l.stackTraces = false) (hX : LX θ) {rec : St → Nat → Int32 → (St → Nat → Prop) → (St → Prop) → Prop} {dR : Nat} (hrec : ∀ {d : Nat}, dR ≤ d → ∀ (st : St) (p1 : Nat) (p2 : Int32), sh st p1 = 8 → p1 < gBIG → ∀ {Φ : St → Nat → Prop} {Φa : St → Prop}, rec st p1 p2 Φ Φa → Ct θ l yX0_nodeWorth (ws_ yX0_nodeWorth cX0_nodeWorth 6 (some (Jvm.ClassFile.FieldType.object "SecretsWorth$Ratio"))) d [.ref (ad θ 0), .ref (ad θ p1), .int p2] st (pN θ 3 Φ, (exA Φa))) {d : Nat} (hd : 5 ≤ d) (hdR : dR + 1 ≤ d) (st : St) (p1 : Nat) (p2 : Int32) (hs_p1 : sh st p1 = 8) (hb_p1 : p1 < gBIG) {Φ : St → Nat → Prop} {Φa : St → Prop} (h : w_X0_nodeWorth rec st p1 p2 Φ Φa) : Ct θ l yX0_nodeWorth (ws_ yX0_nodeWorth cX0_nodeWorth 6 (some (Jvm.ClassFile.FieldType.object "SecretsWorth$Ratio"))) d [.ref (ad θ 0), .ref (ad θ p1), .int p2] st (pN θ 3 Φ, (exA Φa)) := by
  refine Ct_entry hl0 e_X0_nodeWorth (Nat.le_of_ble_eq_true rfl) (fun κ hκ _ C => ?_)
  subst hκ
  have hn : ∀ st r, r < gBIG → sh st r = 3 → Φ st r → ((pN θ 3 Φ, (exA Φa)) : Ph).1 st (some (.ref (ad θ r))) := fun st r q1 q2 q => ⟨r, rfl, q1, q2, q⟩
  have ha : ∀ st q, Φa st → ((pN θ 3 Φ, (exA Φa)) : Ph).2 st "java/lang/ArithmeticException" q := fun st q2 q => ⟨rfl, q⟩
  change X _ _ _ _ _ [(0, .ref (ad θ 0)), (1, .ref (ad θ p1)), (2, .int p2)] _
  unfold w_X0_nodeWorth at h
  have g1 := h.1
  have h := h.2
  have g2 := h.1
  have h := h.2
  refine X_new (ci := 2) (q := (RX2, TX2, 2)) C rfl q232 q234 q134 g1 g2 dX0_nodeWorth_0 (fun hE5 => ?_)
  refine X_nm (fun s3 e4 => ?_)
  have h := h s3 e4
  rw [← e4] at hE5
  have hs_p1 := Ext_sh hE5 hs_p1 (by decide)
  have hs6 : sh s3 (sN st) = 3 := by rw [e4]; exact sh_mk
  have hb7 := nb_N g1
  refine X_dup C dX0_nodeWorth_3 rfl ?_
  refine X_callIN (As := []) (rest := [_]) C q235 q236 q134 q237 rfl nm_X2_init rfl dX0_nodeWorth_4 (m_X2_init (Cx_l C) (d := d - 1) (by omega) s3 (sN st) hs6 hb7 h) (by omega) (by decide) (Nat.le_of_ble_eq_true rfl) (fun s9 w10 hE11 hP12 => ?_) (fun s15 E13 q14 hE11 hP12 => ?_)
  rotate_left
  · exact False.elim hP12
  obtain ⟨rfl, h⟩ := hP12
  refine X_tln ?_
  have hs_p1 := Ext_sh hE11 hs_p1 (by decide)
  have hs6 := Ext_sh hE11 hs6 (by decide)
  refine X_astore_n C dX0_nodeWorth_7 rfl (isRV_r _) (lo2 := [(3, _), (0, _), (1, _), (2, _)]) (by decide) rfl ?_
  refine X_aload_n C dX0_nodeWorth_8 rfl 2 rfl (isRV_r _) ?_
  refine X_get (ci := 7) (j := 1) (q := (RX7, TX7, 4)) C rfl (by decide) q1268 rfl dX0_nodeWorth_9 hs_p1 (v := .int (sI s9 p1 1)) rfl ?_
  refine X_if_le (tgt := 65) C dX0_nodeWorth_12 (by decide) (fun c16 => ?_) (fun c16 => ?_)
  · have h := h.1 c16
    refine X_sub [1, 2, 3, 0] (lo2 := [(0, _), (1, _), (2, _), (3, _)]) rfl ?_
    exact t_X0_nodeWorth_b65 hX hrec hd hdR C hn ha s9 p1 p2 (sN st) hs_p1 hb_p1 hs6 hb7 h
  · have h := h.2 c16
    refine X_aload_n C dX0_nodeWorth_15 rfl 1 rfl (isRV_r _) ?_
    refine X_getF (ci := 0) (j := 27) (q := (RX0, TX0, 49)) C rfl (by decide) q287 rfl dX0_nodeWorth_16 (b := 141) (LX_S hX (k := 0) rfl) (LX_F hX (k := 0) (j := 27) rfl) rfl ?_
    refine X_aload_n C dX0_nodeWorth_19 rfl 2 rfl (isRV_r _) ?_
    refine X_get (ci := 7) (j := 1) (q := (RX7, TX7, 4)) C rfl (by decide) q1268 rfl dX0_nodeWorth_20 hs_p1 (v := .int (sI s9 p1 1)) rfl ?_
    refine X_i2l C dX0_nodeWorth_23 ?_
    refine X_lconst (v := 1) C dX0_nodeWorth_24 rfl ?_
    refine X_sh (LX_S hX (k := 141) rfl) (by decide) (fun hs86 hb87 => ?_)
    refine X_callV (ci := 2) (q := (RX2, TX2, 2)) (As := [_, _]) (rest := []) C rfl hs86 q714 q715 q716 q134 q717 ⟨rfl, nm_X2_is⟩ rfl dX0_nodeWorth_25 (m_X2_is (Cx_l C) (d := d - 1) (by omega) s9 141 (sI s9 p1 1).toInt64 1 hs86 hb87 h) (by omega) (by decide) (Nat.le_of_ble_eq_true rfl) (fun s89 w90 hE91 hP92 => ?_) (fun s95 E93 q94 hE91 hP92 => ?_)
    rotate_left
    · rcases hP92 with ⟨rfl, h⟩
      exact XT_out C rfl (ha s95 q94 h)
    obtain ⟨r88, rfl, hb96, hs97, h⟩ := hP92
    refine X_tls ?_
    have hs_p1 := Ext_sh hE91 hs_p1 (by decide)
    have hs6 := Ext_sh hE91 hs6 (by decide)
    refine X_pop C dX0_nodeWorth_28 rfl ?_
    refine X_aload_n C dX0_nodeWorth_29 rfl 0 rfl (isRV_r _) ?_
    refine X_iload_n C dX0_nodeWorth_30 rfl 3 rfl ?_
    refine X_if_eq (tgt := 41) C dX0_nodeWorth_31 (by decide) (fun c98 => ?_) (fun c98 => ?_)
    · have h := h.1 c98
      refine X_aload_n C dX0_nodeWorth_41 rfl 1 rfl (isRV_r _) ?_
      refine X_getF (ci := 0) (j := 28) (q := (RX0, TX0, 49)) C rfl (by decide) q288 rfl dX0_nodeWorth_42 (b := 142) (LX_S hX (k := 0) rfl) (LX_F hX (k := 0) (j := 28) rfl) rfl ?_
      refine X_aload_n C dX0_nodeWorth_45 rfl 1 rfl (isRV_r _) ?_
      refine X_getF (ci := 0) (j := 27) (q := (RX0, TX0, 49)) C rfl (by decide) q287 rfl dX0_nodeWorth_46 (b := 141) (LX_S hX (k := 0) rfl) (LX_F hX (k := 0) (j := 27) rfl) rfl ?_
      refine X_aload_n C dX0_nodeWorth_49 rfl 1 rfl (isRV_r _) ?_
      refine X_getF (ci := 0) (j := 18) (q := (RX0, TX0, 49)) C rfl (by decide) q278 rfl dX0_nodeWorth_50 (b := 133) (LX_S hX (k := 0) rfl) (LX_F hX (k := 0) (j := 18) rfl) rfl ?_
      refine X_aload_n C dX0_nodeWorth_53 rfl 2 rfl (isRV_r _) ?_
      refine X_get (ci := 7) (j := 0) (q := (RX7, TX7, 4)) C rfl (by decide) q1266 rfl dX0_nodeWorth_54 hs_p1 (v := .int (sI s89 p1 0)) rfl ?_
      have g99 := h.1
      have h := h.2
      refine X_aaldF C 9 rfl (LX_S hX (k := 133) rfl) (by decide) rfl (LX_L hX (k := 133) rfl) g99 rfl (b := (149 + (sI s89 p1 0).toNatClampNeg)) (LXf_worth hX (i := (sI s89 p1 0).toNatClampNeg) (in_lt g99)).2 dX0_nodeWorth_57 rfl ?_
      refine X_sh (LX_S hX (k := 142) rfl) (by decide) (fun hs100 hb101 => ?_)
      refine X_sh (LX_S hX (k := 141) rfl) (by decide) (fun hs102 hb103 => ?_)
      refine X_sh (LXf_worth hX (i := (sI s89 p1 0).toNatClampNeg) (in_lt g99)).1 (by decide) (fun hs104 hb105 => ?_)
      refine X_callV (ci := 2) (q := (RX2, TX2, 2)) (As := [_, _]) (rest := [_]) C rfl hs100 q802 q803 q804 q134 q805 ⟨rfl, nm_X2_times⟩ rfl dX0_nodeWorth_58 (m_X2_times (Cx_l C) (d := d - 1) (by omega) s89 142 141 (149 + (sI s89 p1 0).toNatClampNeg) hs100 hb101 hs102 hb103 hs104 hb105 h) (by omega) (by decide) (Nat.le_of_ble_eq_true rfl) (fun s107 w108 hE109 hP110 => ?_) (fun s113 E111 q112 hE109 hP110 => ?_)
      rotate_left
      · rcases hP110 with ⟨rfl, h⟩
        exact XT_out C rfl (ha s113 q112 h)
      obtain ⟨r106, rfl, hb114, hs115, h⟩ := hP110
      refine X_tls ?_
      have hs_p1 := Ext_sh hE109 hs_p1 (by decide)
      have hs6 := Ext_sh hE109 hs6 (by decide)
      have hs97 := Ext_sh hE109 hs97 (by decide)
      refine X_sub [1, 2, 3, 0] (lo2 := [(0, _), (1, _), (2, _), (3, _)]) rfl ?_
      exact t_X0_nodeWorth_b61 hX hrec hd hdR C hn ha s107 p1 p2 (sN st) r106 (sN st) hs_p1 hb_p1 hs6 hb7 hs115 hb114 hs6 hb7 h
    · have h := h.2 c98
      refine X_aload_n C dX0_nodeWorth_34 rfl 1 rfl (isRV_r _) ?_
      refine X_getF (ci := 0) (j := 27) (q := (RX0, TX0, 49)) C rfl (by decide) q287 rfl dX0_nodeWorth_35 (b := 141) (LX_S hX (k := 0) rfl) (LX_F hX (k := 0) (j := 27) rfl) rfl ?_
      refine X_goto (tgt := 61) C dX0_nodeWorth_38 (by decide) ?_
      refine X_sh (LX_S hX (k := 141) rfl) (by decide) (fun hs126 hb127 => ?_)
      refine X_sub [1, 2, 3, 0] (lo2 := [(0, _), (1, _), (2, _), (3, _)]) rfl ?_
      exact t_X0_nodeWorth_b61 hX hrec hd hdR C hn ha s89 p1 p2 (sN st) 141 (sN st) hs_p1 hb_p1 hs6 hb7 hs126 hb127 hs6 hb7 h

def w_X0_nodeWorth_f : Nat → St → Nat → Int32 → (St → Nat → Prop) → (St → Prop) → Prop
  | 0, _, _, _, _, _ => False
  | n + 1, st, p1, p2, Φ, Φa => w_X0_nodeWorth (w_X0_nodeWorth_f n) st p1 p2 Φ Φa
theorem m_X0_nodeWorth_f {θ : Th} {l : Launch} (hl0 : l.stackTraces = false) (hX : LX θ) : ∀ (n : Nat) {d : Nat}, 5 + 1 * n ≤ d → ∀ (st : St) (p1 : Nat) (p2 : Int32), sh st p1 = 8 → p1 < gBIG → ∀ {Φ : St → Nat → Prop} {Φa : St → Prop}, w_X0_nodeWorth_f n st p1 p2 Φ Φa → Ct θ l yX0_nodeWorth (ws_ yX0_nodeWorth cX0_nodeWorth 6 (some (Jvm.ClassFile.FieldType.object "SecretsWorth$Ratio"))) d [.ref (ad θ 0), .ref (ad θ p1), .int p2] st (pN θ 3 Φ, (exA Φa)) := by
  intro n
  induction n with
  | zero => intro d hd st p1 p2 hs_p1 hb_p1 Φ Φa h; exact h.elim
  | succ n ih =>
    intro d hd st p1 p2 hs_p1 hb_p1 Φ Φa h
    exact m_X0_nodeWorth hl0 hX (dR := 5 + 1 * n) ih (by omega) (by omega) st p1 p2 hs_p1 hb_p1 h

theorem nm_X0_worth : yX0_worth.cls ≠ "java/lang/invoke/MethodHandle" ∧ yX0_worth.cls ≠ "java/lang/invoke/VarHandle" ∧ (parseMethodDescriptor yX0_worth.desc).map (fun d => d.parameters.length) = some 2 := by decide +kernel
def w_X0_worth_b58 (Φ : St → Int64 → Prop) (st : St) (x2 : Int32) (z0 : Int32) (z1 : Option Nat) : Prop := ∃ r184, z1 = some r184 ∧ r184 < gBIG ∧ sh st r184 = 8 ∧ (w_X0_nodeWorth_f 8) st r184 z0 (fun (s189 : St) (r188 : Nat) => w_X2_part s189 r188 x2 (fun (r207 : Int64) => Φ s189 r207)) (fun (s190 : St) => w_X0_isFarBig s190 (fun (s192 : St) (r191 : Int64) => Φ s192 r191))
theorem t_X0_worth_b58 {θ : Th} {κ : Kx} {Ph : Ph} (hX : LX θ) {d : Nat} (hd : 14 ≤ d) (C : Cx θ κ yX0_worth cX0_worth 5 (some Jvm.ClassFile.FieldType.long) [(0, 65, 118, 377), (66, 117, 118, 377), (0, 65, 124, 1), (66, 117, 124, 1)] d) {Φ : St → Int64 → Prop} (hn : ∀ st r, Φ st r → Ph.1 st (some (.long r))) (st : St) (x2 : Int32) (z0 : Int32) (z1 : Option Nat) (h : w_X0_worth_b58 Φ st x2 z0 z1) : X θ κ Ph st 58 [(0, .ref (ad θ 0)), (2, .int x2)] [.int z0, rv θ z1, .ref (ad θ 0)] := by
  unfold w_X0_worth_b58 at h
  obtain ⟨r184, q185, hb187, hs186, h⟩ := h
  rw [q185]
  refine X_callVS (ci := 0) (q := (RX0, TX0, 49)) (As := [_, _]) (rest := []) C rfl (LX_S hX (k := 0) rfl) q1331 q1333 qs52 q132 q1334 ⟨rfl, nm_X0_nodeWorth⟩ rfl dX0_worth_58 (m_X0_nodeWorth_f (Cx_l C) hX 8 (d := d - 1) (by omega) st r184 z0 hs186 hb187 h) (by omega) (by decide) (Nat.le_of_ble_eq_true rfl) (fun s189 w199 hE200 hP201 => ?_) (fun s204 E202 q203 hE200 hP201 => ?_)
  rotate_left
  · rcases hP201 with ⟨rfl, h⟩
    have hs186 := Ext_sh hE200 hs186 (by decide)
    refine XT_catch C [] ⟨0, 65, 118, 377⟩ [⟨66, 117, 118, 377⟩, ⟨0, 65, 124, 1⟩, ⟨66, 117, 124, 1⟩] rfl (fun _ h => absurd h List.not_mem_nil) (by decide) (by decide) q762 q724 ?_
    refine X_astore_n C dX0_worth_118 rfl (isRV_r _) (lo2 := [(3, _), (0, _), (2, _)]) (by decide) rfl ?_
    refine X_aload_n C dX0_worth_119 rfl 1 rfl (isRV_r _) ?_
    refine X_callVS (ci := 0) (q := (RX0, TX0, 49)) (As := []) (rest := []) C rfl (LX_S hX (k := 0) rfl) q821 q823 qs23 q132 q824 ⟨rfl, nm_X0_isFarBig⟩ rfl dX0_worth_120 (m_X0_isFarBig (Cx_l C) hX (d := d - 1) (by omega) s204 h) (by omega) (by decide) (Nat.le_of_ble_eq_true rfl) (fun s192 w193 hE194 hP195 => ?_) (fun s198 E196 q197 hE194 hP195 => ?_)
    rotate_left
    · exact False.elim hP195
    obtain ⟨r191, rfl, h⟩ := hP195
    refine X_tls ?_
    have hs186 := Ext_sh hE194 hs186 (by decide)
    exact X_lret C rfl dX0_worth_123 (hn s192 _ h)
  obtain ⟨r188, rfl, hb205, hs206, h⟩ := hP201
  refine X_tls ?_
  have hs186 := Ext_sh hE200 hs186 (by decide)
  refine X_iload_n C dX0_worth_61 rfl 1 rfl ?_
  refine X_callV (ci := 2) (q := (RX2, TX2, 2)) (As := [_]) (rest := []) C rfl hs206 q741 q742 q743 q134 q744 ⟨rfl, nm_X2_part⟩ rfl dX0_worth_62 (m_X2_part (Cx_l C) (d := d - 1) (by omega) s189 r188 x2 hs206 hb205 h) (by omega) (by decide) (Nat.le_of_ble_eq_true rfl) (fun s213 w208 hE209 hP210 => ?_) (fun s214 E211 q212 hE209 hP210 => ?_)
  rotate_left
  · exact False.elim hP210
  obtain ⟨r207, rfl, rfl, h⟩ := hP210
  refine X_tls ?_
  exact X_lret C rfl dX0_worth_65 (hn s189 _ h)
def w_X0_worth_b24 (Φ : St → Int64 → Prop) (st : St) (x1 : Int32) (x2 : Int32) (z0 : Int32) : Prop := w_X0_must st z0 (fun (s11 : St) => w_X0_mustGrow s11 (fun (s31 : St) => w_X0_allWorths s31 (fun (s51 : St) => ((2 ≤ x1) → ∃ r80, (sR s51 2 7) = some r80 ∧ r80 < gBIG ∧ sh s51 r80 = 8 ∧ (w_X0_nodeWorth_f 8) s51 r80 0 (fun (s85 : St) (r84 : Nat) => ∃ r103, (sR s85 2 7) = some r103 ∧ r103 < gBIG ∧ sh s85 r103 = 8 ∧ (w_X0_nodeWorth_f 8) s85 r103 1 (fun (s108 : St) (r107 : Nat) => w_X2_isAbove s108 r107 (fun (r126 : Int32) => w_X0_need s108 r126 7 (fun (s135 : St) => w_X2_by s135 143 r84 r107 (fun (s157 : St) (r156 : Nat) => w_X2_part s157 r156 x2 (fun (r175 : Int64) => Φ s157 r175)) (fun (s158 : St) => w_X0_isFarBig s158 (fun (s160 : St) (r159 : Int64) => Φ s160 r159))) (fun (s136 : St) (a137 : Nat) => w_X0_answersFar s136 a137 (fun (s141 : St) (r140 : Int64) => Φ s141 r140)))) (fun (s109 : St) => w_X0_isFarBig s109 (fun (s111 : St) (r110 : Int64) => Φ s111 r110))) (fun (s86 : St) => w_X0_isFarBig s86 (fun (s88 : St) (r87 : Int64) => Φ s88 r87))) ∧ ((¬ 2 ≤ x1) → ((x1 ≠ 1) → w_X0_worth_b58 Φ s51 x2 0 (sR s51 2 7)) ∧ ((x1 = 1) → w_X0_worth_b58 Φ s51 x2 1 (sR s51 2 7)))) (fun (s52 : St) (a53 : Nat) => w_X0_answersFar s52 a53 (fun (s57 : St) (r56 : Int64) => Φ s57 r56)) (fun (s64 : St) => w_X0_isFarBig s64 (fun (s66 : St) (r65 : Int64) => Φ s66 r65))) (fun (s32 : St) (a33 : Nat) => w_X0_answersFar s32 a33 (fun (s37 : St) (r36 : Int64) => Φ s37 r36))) (fun (s12 : St) (a13 : Nat) => w_X0_answersFar s12 a13 (fun (s17 : St) (r16 : Int64) => Φ s17 r16))
theorem t_X0_worth_b24 {θ : Th} {κ : Kx} {Ph : Ph} (hX : LX θ) {d : Nat} (hd : 14 ≤ d) (C : Cx θ κ yX0_worth cX0_worth 5 (some Jvm.ClassFile.FieldType.long) [(0, 65, 118, 377), (66, 117, 118, 377), (0, 65, 124, 1), (66, 117, 124, 1)] d) {Φ : St → Int64 → Prop} (hn : ∀ st r, Φ st r → Ph.1 st (some (.long r))) (st : St) (x1 : Int32) (x2 : Int32) (z0 : Int32) (h : w_X0_worth_b24 Φ st x1 x2 z0) : X θ κ Ph st 24 [(0, .ref (ad θ 0)), (1, .int x1), (2, .int x2)] [.int z0] := by
  unfold w_X0_worth_b24 at h
  refine X_callS (As := [_]) (rest := []) C q418 q419 q132 q420 nm_X0_must rfl dX0_worth_24 (m_X0_must (Cx_l C) hX (d := d - 1) (by omega) st z0 h) (by omega) (by decide) (Nat.le_of_ble_eq_true rfl) (fun s11 w24 hE25 hP26 => ?_) (fun s29 E27 q28 hE25 hP26 => ?_)
  rotate_left
  · rcases hP26 with ⟨rfl, a_, rfl, hb_, hs_, h⟩
    refine XT_catch C [⟨0, 65, 118, 377⟩, ⟨66, 117, 118, 377⟩] ⟨0, 65, 124, 1⟩ [⟨66, 117, 124, 1⟩] rfl (List.forall_mem_cons.mpr ⟨Or.inr ⟨by decide, "java/lang/ArithmeticException", q762, by decide +kernel⟩, (List.forall_mem_cons.mpr ⟨Or.inl (by decide), (fun _ h => absurd h List.not_mem_nil)⟩)⟩) (by decide) (by decide) q412 q425 ?_
    refine X_astore_n C dX0_worth_124 rfl (isRV_r _) (lo2 := [(3, _), (0, _), (1, _), (2, _)]) (by decide) rfl ?_
    refine X_aload_n C dX0_worth_125 rfl 1 rfl (isRV_r _) ?_
    refine X_aload_n C dX0_worth_126 rfl 0 rfl (isRV_r _) ?_
    refine X_callVS (ci := 0) (q := (RX0, TX0, 49)) (As := [_]) (rest := []) C rfl (LX_S hX (k := 0) rfl) q745 q747 qs14 q132 q748 ⟨rfl, nm_X0_answersFar⟩ rfl dX0_worth_127 (m_X0_answersFar (Cx_l C) hX (d := d - 1) (by omega) s29 a_ hs_ hb_ h) (by omega) (by decide) (Nat.le_of_ble_eq_true rfl) (fun s17 w18 hE19 hP20 => ?_) (fun s23 E21 q22 hE19 hP20 => ?_)
    rotate_left
    · exact False.elim hP20
    obtain ⟨r16, rfl, h⟩ := hP20
    refine X_tls ?_
    have hs_ := Ext_sh hE19 hs_ (by decide)
    exact X_lret C rfl dX0_worth_130 (hn s17 _ h)
  obtain ⟨rfl, h⟩ := hP26
  refine X_tln ?_
  refine X_aload_n C dX0_worth_27 rfl 0 rfl (isRV_r _) ?_
  refine X_callVS (ci := 0) (q := (RX0, TX0, 49)) (As := []) (rest := []) C rfl (LX_S hX (k := 0) rfl) q1307 q1309 qs51 q132 q1310 ⟨rfl, nm_X0_mustGrow⟩ rfl dX0_worth_28 (m_X0_mustGrow (Cx_l C) hX (d := d - 1) (by omega) s11 h) (by omega) (by decide) (Nat.le_of_ble_eq_true rfl) (fun s31 w44 hE45 hP46 => ?_) (fun s49 E47 q48 hE45 hP46 => ?_)
  rotate_left
  · rcases hP46 with ⟨rfl, a_, rfl, hb_, hs_, h⟩
    refine XT_catch C [⟨0, 65, 118, 377⟩, ⟨66, 117, 118, 377⟩] ⟨0, 65, 124, 1⟩ [⟨66, 117, 124, 1⟩] rfl (List.forall_mem_cons.mpr ⟨Or.inr ⟨by decide, "java/lang/ArithmeticException", q762, by decide +kernel⟩, (List.forall_mem_cons.mpr ⟨Or.inl (by decide), (fun _ h => absurd h List.not_mem_nil)⟩)⟩) (by decide) (by decide) q412 q425 ?_
    refine X_astore_n C dX0_worth_124 rfl (isRV_r _) (lo2 := [(3, _), (0, _), (1, _), (2, _)]) (by decide) rfl ?_
    refine X_aload_n C dX0_worth_125 rfl 1 rfl (isRV_r _) ?_
    refine X_aload_n C dX0_worth_126 rfl 0 rfl (isRV_r _) ?_
    refine X_callVS (ci := 0) (q := (RX0, TX0, 49)) (As := [_]) (rest := []) C rfl (LX_S hX (k := 0) rfl) q745 q747 qs14 q132 q748 ⟨rfl, nm_X0_answersFar⟩ rfl dX0_worth_127 (m_X0_answersFar (Cx_l C) hX (d := d - 1) (by omega) s49 a_ hs_ hb_ h) (by omega) (by decide) (Nat.le_of_ble_eq_true rfl) (fun s37 w38 hE39 hP40 => ?_) (fun s43 E41 q42 hE39 hP40 => ?_)
    rotate_left
    · exact False.elim hP40
    obtain ⟨r36, rfl, h⟩ := hP40
    refine X_tls ?_
    have hs_ := Ext_sh hE39 hs_ (by decide)
    exact X_lret C rfl dX0_worth_130 (hn s37 _ h)
  obtain ⟨rfl, h⟩ := hP46
  refine X_tln ?_
  refine X_aload_n C dX0_worth_31 rfl 0 rfl (isRV_r _) ?_
  refine X_callVS (ci := 0) (q := (RX0, TX0, 49)) (As := []) (rest := []) C rfl (LX_S hX (k := 0) rfl) q790 q792 qs21 q132 q793 ⟨rfl, nm_X0_allWorths⟩ rfl dX0_worth_32 (m_X0_allWorths (Cx_l C) hX (d := d - 1) (by omega) s31 h) (by omega) (by decide) (Nat.le_of_ble_eq_true rfl) (fun s51 w73 hE74 hP75 => ?_) (fun s78 E76 q77 hE74 hP75 => ?_)
  rotate_left
  · rcases hP75 with ⟨rfl, a_, rfl, hb_, hs_, h⟩ | ⟨rfl, h⟩
    · refine XT_catch C [⟨0, 65, 118, 377⟩, ⟨66, 117, 118, 377⟩] ⟨0, 65, 124, 1⟩ [⟨66, 117, 124, 1⟩] rfl (List.forall_mem_cons.mpr ⟨Or.inr ⟨by decide, "java/lang/ArithmeticException", q762, by decide +kernel⟩, (List.forall_mem_cons.mpr ⟨Or.inl (by decide), (fun _ h => absurd h List.not_mem_nil)⟩)⟩) (by decide) (by decide) q412 q425 ?_
      refine X_astore_n C dX0_worth_124 rfl (isRV_r _) (lo2 := [(3, _), (0, _), (1, _), (2, _)]) (by decide) rfl ?_
      refine X_aload_n C dX0_worth_125 rfl 1 rfl (isRV_r _) ?_
      refine X_aload_n C dX0_worth_126 rfl 0 rfl (isRV_r _) ?_
      refine X_callVS (ci := 0) (q := (RX0, TX0, 49)) (As := [_]) (rest := []) C rfl (LX_S hX (k := 0) rfl) q745 q747 qs14 q132 q748 ⟨rfl, nm_X0_answersFar⟩ rfl dX0_worth_127 (m_X0_answersFar (Cx_l C) hX (d := d - 1) (by omega) s78 a_ hs_ hb_ h) (by omega) (by decide) (Nat.le_of_ble_eq_true rfl) (fun s57 w58 hE59 hP60 => ?_) (fun s63 E61 q62 hE59 hP60 => ?_)
      rotate_left
      · exact False.elim hP60
      obtain ⟨r56, rfl, h⟩ := hP60
      refine X_tls ?_
      have hs_ := Ext_sh hE59 hs_ (by decide)
      exact X_lret C rfl dX0_worth_130 (hn s57 _ h)
    · refine XT_catch C [] ⟨0, 65, 118, 377⟩ [⟨66, 117, 118, 377⟩, ⟨0, 65, 124, 1⟩, ⟨66, 117, 124, 1⟩] rfl (fun _ h => absurd h List.not_mem_nil) (by decide) (by decide) q762 q724 ?_
      refine X_astore_n C dX0_worth_118 rfl (isRV_r _) (lo2 := [(3, _), (0, _), (1, _), (2, _)]) (by decide) rfl ?_
      refine X_aload_n C dX0_worth_119 rfl 1 rfl (isRV_r _) ?_
      refine X_callVS (ci := 0) (q := (RX0, TX0, 49)) (As := []) (rest := []) C rfl (LX_S hX (k := 0) rfl) q821 q823 qs23 q132 q824 ⟨rfl, nm_X0_isFarBig⟩ rfl dX0_worth_120 (m_X0_isFarBig (Cx_l C) hX (d := d - 1) (by omega) s78 h) (by omega) (by decide) (Nat.le_of_ble_eq_true rfl) (fun s66 w67 hE68 hP69 => ?_) (fun s72 E70 q71 hE68 hP69 => ?_)
      rotate_left
      · exact False.elim hP69
      obtain ⟨r65, rfl, h⟩ := hP69
      refine X_tls ?_
      exact X_lret C rfl dX0_worth_123 (hn s66 _ h)
  obtain ⟨rfl, h⟩ := hP75
  refine X_tln ?_
  refine X_iload_n C dX0_worth_35 rfl 1 rfl ?_
  refine X_iconst (v := 2) C dX0_worth_36 rfl ?_
  refine X_icmp_ge (tgt := 66) C dX0_worth_37 (by decide) (fun c79 => ?_) (fun c79 => ?_)
  · have h := h.1 c79
    refine X_aload_n C dX0_worth_66 rfl 0 rfl (isRV_r _) ?_
    refine X_aload_n C dX0_worth_67 rfl 0 rfl (isRV_r _) ?_
    refine X_getF (ci := 0) (j := 1) (q := (RX0, TX0, 49)) C rfl (by decide) q261 rfl dX0_worth_68 (b := 2) (LX_S hX (k := 0) rfl) (LX_F hX (k := 0) (j := 1) rfl) rfl ?_
    refine X_getNS (ci := 1) (j := 7) (q := (RX1, TX1, 10)) C rfl (by decide) q203 rfl dX0_worth_71 (LH_0 (LX_H2 hX)) (v := rv θ (sR s51 2 7)) rfl ?_
    refine X_iconst (v := 0) C dX0_worth_74 rfl ?_
    obtain ⟨r80, q81, hb83, hs82, h⟩ := h
    rw [q81]
    refine X_callVS (ci := 0) (q := (RX0, TX0, 49)) (As := [_, _]) (rest := []) C rfl (LX_S hX (k := 0) rfl) q1331 q1333 qs52 q132 q1334 ⟨rfl, nm_X0_nodeWorth⟩ rfl dX0_worth_75 (m_X0_nodeWorth_f (Cx_l C) hX 8 (d := d - 1) (by omega) s51 r80 0 hs82 hb83 h) (by omega) (by decide) (Nat.le_of_ble_eq_true rfl) (fun s85 w95 hE96 hP97 => ?_) (fun s100 E98 q99 hE96 hP97 => ?_)
    rotate_left
    · rcases hP97 with ⟨rfl, h⟩
      have hs82 := Ext_sh hE96 hs82 (by decide)
      refine XT_catch C [⟨0, 65, 118, 377⟩] ⟨66, 117, 118, 377⟩ [⟨0, 65, 124, 1⟩, ⟨66, 117, 124, 1⟩] rfl (List.forall_mem_cons.mpr ⟨Or.inl (by decide), (fun _ h => absurd h List.not_mem_nil)⟩) (by decide) (by decide) q762 q724 ?_
      refine X_astore_n C dX0_worth_118 rfl (isRV_r _) (lo2 := [(3, _), (0, _), (1, _), (2, _)]) (by decide) rfl ?_
      refine X_aload_n C dX0_worth_119 rfl 1 rfl (isRV_r _) ?_
      refine X_callVS (ci := 0) (q := (RX0, TX0, 49)) (As := []) (rest := []) C rfl (LX_S hX (k := 0) rfl) q821 q823 qs23 q132 q824 ⟨rfl, nm_X0_isFarBig⟩ rfl dX0_worth_120 (m_X0_isFarBig (Cx_l C) hX (d := d - 1) (by omega) s100 h) (by omega) (by decide) (Nat.le_of_ble_eq_true rfl) (fun s88 w89 hE90 hP91 => ?_) (fun s94 E92 q93 hE90 hP91 => ?_)
      rotate_left
      · exact False.elim hP91
      obtain ⟨r87, rfl, h⟩ := hP91
      refine X_tls ?_
      have hs82 := Ext_sh hE90 hs82 (by decide)
      exact X_lret C rfl dX0_worth_123 (hn s88 _ h)
    obtain ⟨r84, rfl, hb101, hs102, h⟩ := hP97
    refine X_tls ?_
    have hs82 := Ext_sh hE96 hs82 (by decide)
    refine X_astore_n C dX0_worth_78 rfl (isRV_r _) (lo2 := [(3, _), (0, _), (1, _), (2, _)]) (by decide) rfl ?_
    refine X_aload_n C dX0_worth_79 rfl 1 rfl (isRV_r _) ?_
    refine X_aload_n C dX0_worth_80 rfl 1 rfl (isRV_r _) ?_
    refine X_getF (ci := 0) (j := 1) (q := (RX0, TX0, 49)) C rfl (by decide) q261 rfl dX0_worth_81 (b := 2) (LX_S hX (k := 0) rfl) (LX_F hX (k := 0) (j := 1) rfl) rfl ?_
    refine X_getNS (ci := 1) (j := 7) (q := (RX1, TX1, 10)) C rfl (by decide) q203 rfl dX0_worth_84 (LH_0 (LX_H2 hX)) (v := rv θ (sR s85 2 7)) rfl ?_
    refine X_iconst (v := 1) C dX0_worth_87 rfl ?_
    obtain ⟨r103, q104, hb106, hs105, h⟩ := h
    rw [q104]
    refine X_callVS (ci := 0) (q := (RX0, TX0, 49)) (As := [_, _]) (rest := []) C rfl (LX_S hX (k := 0) rfl) q1331 q1333 qs52 q132 q1334 ⟨rfl, nm_X0_nodeWorth⟩ rfl dX0_worth_88 (m_X0_nodeWorth_f (Cx_l C) hX 8 (d := d - 1) (by omega) s85 r103 1 hs105 hb106 h) (by omega) (by decide) (Nat.le_of_ble_eq_true rfl) (fun s108 w118 hE119 hP120 => ?_) (fun s123 E121 q122 hE119 hP120 => ?_)
    rotate_left
    · rcases hP120 with ⟨rfl, h⟩
      have hs82 := Ext_sh hE119 hs82 (by decide)
      have hs102 := Ext_sh hE119 hs102 (by decide)
      have hs105 := Ext_sh hE119 hs105 (by decide)
      refine XT_catch C [⟨0, 65, 118, 377⟩] ⟨66, 117, 118, 377⟩ [⟨0, 65, 124, 1⟩, ⟨66, 117, 124, 1⟩] rfl (List.forall_mem_cons.mpr ⟨Or.inl (by decide), (fun _ h => absurd h List.not_mem_nil)⟩) (by decide) (by decide) q762 q724 ?_
      refine X_astore_n C dX0_worth_118 rfl (isRV_r _) (lo2 := [(3, _), (0, _), (1, _), (2, _)]) (by decide) rfl ?_
      refine X_aload_n C dX0_worth_119 rfl 1 rfl (isRV_r _) ?_
      refine X_callVS (ci := 0) (q := (RX0, TX0, 49)) (As := []) (rest := []) C rfl (LX_S hX (k := 0) rfl) q821 q823 qs23 q132 q824 ⟨rfl, nm_X0_isFarBig⟩ rfl dX0_worth_120 (m_X0_isFarBig (Cx_l C) hX (d := d - 1) (by omega) s123 h) (by omega) (by decide) (Nat.le_of_ble_eq_true rfl) (fun s111 w112 hE113 hP114 => ?_) (fun s117 E115 q116 hE113 hP114 => ?_)
      rotate_left
      · exact False.elim hP114
      obtain ⟨r110, rfl, h⟩ := hP114
      refine X_tls ?_
      have hs82 := Ext_sh hE113 hs82 (by decide)
      have hs102 := Ext_sh hE113 hs102 (by decide)
      have hs105 := Ext_sh hE113 hs105 (by decide)
      exact X_lret C rfl dX0_worth_123 (hn s111 _ h)
    obtain ⟨r107, rfl, hb124, hs125, h⟩ := hP120
    refine X_tls ?_
    have hs82 := Ext_sh hE119 hs82 (by decide)
    have hs102 := Ext_sh hE119 hs102 (by decide)
    have hs105 := Ext_sh hE119 hs105 (by decide)
    refine X_astore C dX0_worth_91 (isRV_r _) (lo2 := [(4, _), (3, _), (0, _), (1, _), (2, _)]) (by decide) rfl ?_
    refine X_aload C dX0_worth_93 0 rfl (isRV_r _) ?_
    refine X_callV (ci := 2) (q := (RX2, TX2, 2)) (As := []) (rest := []) C rfl hs125 q786 q787 q788 q134 q789 ⟨rfl, nm_X2_isAbove⟩ rfl dX0_worth_95 (m_X2_isAbove (Cx_l C) (d := d - 1) (by omega) s108 r107 hs125 hb124 h) (by omega) (by decide) (Nat.le_of_ble_eq_true rfl) (fun s132 w127 hE128 hP129 => ?_) (fun s133 E130 q131 hE128 hP129 => ?_)
    rotate_left
    · exact False.elim hP129
    obtain ⟨r126, rfl, rfl, h⟩ := hP129
    refine X_tls ?_
    refine X_bipush (v := 7) C dX0_worth_98 rfl ?_
    refine X_callS (As := [_, _]) (rest := []) C q421 q422 q132 q423 nm_X0_need rfl dX0_worth_100 (m_X0_need (Cx_l C) hX (d := d - 1) (by omega) s108 r126 7 h) (by omega) (by decide) (Nat.le_of_ble_eq_true rfl) (fun s135 w148 hE149 hP150 => ?_) (fun s153 E151 q152 hE149 hP150 => ?_)
    rotate_left
    · rcases hP150 with ⟨rfl, a_, rfl, hb_, hs_, h⟩
      have hs82 := Ext_sh hE149 hs82 (by decide)
      have hs102 := Ext_sh hE149 hs102 (by decide)
      have hs105 := Ext_sh hE149 hs105 (by decide)
      have hs125 := Ext_sh hE149 hs125 (by decide)
      refine XT_catch C [⟨0, 65, 118, 377⟩, ⟨66, 117, 118, 377⟩, ⟨0, 65, 124, 1⟩] ⟨66, 117, 124, 1⟩ [] rfl (List.forall_mem_cons.mpr ⟨Or.inl (by decide), (List.forall_mem_cons.mpr ⟨Or.inr ⟨by decide, "java/lang/ArithmeticException", q762, by decide +kernel⟩, (List.forall_mem_cons.mpr ⟨Or.inl (by decide), (fun _ h => absurd h List.not_mem_nil)⟩)⟩)⟩) (by decide) (by decide) q412 q425 ?_
      refine X_astore_n C dX0_worth_124 rfl (isRV_r _) (lo2 := [(3, _), (4, _), (0, _), (1, _), (2, _)]) (by decide) rfl ?_
      refine X_aload_n C dX0_worth_125 rfl 2 rfl (isRV_r _) ?_
      refine X_aload_n C dX0_worth_126 rfl 0 rfl (isRV_r _) ?_
      refine X_callVS (ci := 0) (q := (RX0, TX0, 49)) (As := [_]) (rest := []) C rfl (LX_S hX (k := 0) rfl) q745 q747 qs14 q132 q748 ⟨rfl, nm_X0_answersFar⟩ rfl dX0_worth_127 (m_X0_answersFar (Cx_l C) hX (d := d - 1) (by omega) s153 a_ hs_ hb_ h) (by omega) (by decide) (Nat.le_of_ble_eq_true rfl) (fun s141 w142 hE143 hP144 => ?_) (fun s147 E145 q146 hE143 hP144 => ?_)
      rotate_left
      · exact False.elim hP144
      obtain ⟨r140, rfl, h⟩ := hP144
      refine X_tls ?_
      have hs82 := Ext_sh hE143 hs82 (by decide)
      have hs102 := Ext_sh hE143 hs102 (by decide)
      have hs105 := Ext_sh hE143 hs105 (by decide)
      have hs125 := Ext_sh hE143 hs125 (by decide)
      have hs_ := Ext_sh hE143 hs_ (by decide)
      exact X_lret C rfl dX0_worth_130 (hn s141 _ h)
    obtain ⟨rfl, h⟩ := hP150
    refine X_tln ?_
    have hs82 := Ext_sh hE149 hs82 (by decide)
    have hs102 := Ext_sh hE149 hs102 (by decide)
    have hs105 := Ext_sh hE149 hs105 (by decide)
    have hs125 := Ext_sh hE149 hs125 (by decide)
    refine X_aload_n C dX0_worth_103 rfl 2 rfl (isRV_r _) ?_
    refine X_getF (ci := 0) (j := 29) (q := (RX0, TX0, 49)) C rfl (by decide) q289 rfl dX0_worth_104 (b := 143) (LX_S hX (k := 0) rfl) (LX_F hX (k := 0) (j := 29) rfl) rfl ?_
    refine X_aload_n C dX0_worth_107 rfl 1 rfl (isRV_r _) ?_
    refine X_aload C dX0_worth_108 0 rfl (isRV_r _) ?_
    refine X_sh (LX_S hX (k := 143) rfl) (by decide) (fun hs154 hb155 => ?_)
    refine X_callV (ci := 2) (q := (RX2, TX2, 2)) (As := [_, _]) (rest := []) C rfl hs154 q1339 q1340 q1341 q134 q1342 ⟨rfl, nm_X2_by⟩ rfl dX0_worth_110 (m_X2_by (Cx_l C) (d := d - 1) (by omega) s135 143 r84 r107 hs154 hb155 hs102 hb101 hs125 hb124 h) (by omega) (by decide) (Nat.le_of_ble_eq_true rfl) (fun s157 w167 hE168 hP169 => ?_) (fun s172 E170 q171 hE168 hP169 => ?_)
    rotate_left
    · rcases hP169 with ⟨rfl, h⟩
      have hs82 := Ext_sh hE168 hs82 (by decide)
      have hs102 := Ext_sh hE168 hs102 (by decide)
      have hs105 := Ext_sh hE168 hs105 (by decide)
      have hs125 := Ext_sh hE168 hs125 (by decide)
      refine XT_catch C [⟨0, 65, 118, 377⟩] ⟨66, 117, 118, 377⟩ [⟨0, 65, 124, 1⟩, ⟨66, 117, 124, 1⟩] rfl (List.forall_mem_cons.mpr ⟨Or.inl (by decide), (fun _ h => absurd h List.not_mem_nil)⟩) (by decide) (by decide) q762 q724 ?_
      refine X_astore_n C dX0_worth_118 rfl (isRV_r _) (lo2 := [(3, _), (4, _), (0, _), (1, _), (2, _)]) (by decide) rfl ?_
      refine X_aload_n C dX0_worth_119 rfl 2 rfl (isRV_r _) ?_
      refine X_callVS (ci := 0) (q := (RX0, TX0, 49)) (As := []) (rest := []) C rfl (LX_S hX (k := 0) rfl) q821 q823 qs23 q132 q824 ⟨rfl, nm_X0_isFarBig⟩ rfl dX0_worth_120 (m_X0_isFarBig (Cx_l C) hX (d := d - 1) (by omega) s172 h) (by omega) (by decide) (Nat.le_of_ble_eq_true rfl) (fun s160 w161 hE162 hP163 => ?_) (fun s166 E164 q165 hE162 hP163 => ?_)
      rotate_left
      · exact False.elim hP163
      obtain ⟨r159, rfl, h⟩ := hP163
      refine X_tls ?_
      have hs82 := Ext_sh hE162 hs82 (by decide)
      have hs102 := Ext_sh hE162 hs102 (by decide)
      have hs105 := Ext_sh hE162 hs105 (by decide)
      have hs125 := Ext_sh hE162 hs125 (by decide)
      exact X_lret C rfl dX0_worth_123 (hn s160 _ h)
    obtain ⟨r156, rfl, hb173, hs174, h⟩ := hP169
    refine X_tls ?_
    have hs82 := Ext_sh hE168 hs82 (by decide)
    have hs102 := Ext_sh hE168 hs102 (by decide)
    have hs105 := Ext_sh hE168 hs105 (by decide)
    have hs125 := Ext_sh hE168 hs125 (by decide)
    refine X_iload_n C dX0_worth_113 rfl 4 rfl ?_
    refine X_callV (ci := 2) (q := (RX2, TX2, 2)) (As := [_]) (rest := []) C rfl hs174 q741 q742 q743 q134 q744 ⟨rfl, nm_X2_part⟩ rfl dX0_worth_114 (m_X2_part (Cx_l C) (d := d - 1) (by omega) s157 r156 x2 hs174 hb173 h) (by omega) (by decide) (Nat.le_of_ble_eq_true rfl) (fun s181 w176 hE177 hP178 => ?_) (fun s182 E179 q180 hE177 hP178 => ?_)
    rotate_left
    · exact False.elim hP178
    obtain ⟨r175, rfl, rfl, h⟩ := hP178
    refine X_tls ?_
    exact X_lret C rfl dX0_worth_117 (hn s157 _ h)
  · have h := h.2 c79
    refine X_aload_n C dX0_worth_40 rfl 0 rfl (isRV_r _) ?_
    refine X_aload_n C dX0_worth_41 rfl 0 rfl (isRV_r _) ?_
    refine X_getF (ci := 0) (j := 1) (q := (RX0, TX0, 49)) C rfl (by decide) q261 rfl dX0_worth_42 (b := 2) (LX_S hX (k := 0) rfl) (LX_F hX (k := 0) (j := 1) rfl) rfl ?_
    refine X_getNS (ci := 1) (j := 7) (q := (RX1, TX1, 10)) C rfl (by decide) q203 rfl dX0_worth_45 (LH_0 (LX_H2 hX)) (v := rv θ (sR s51 2 7)) rfl ?_
    refine X_iload_n C dX0_worth_48 rfl 1 rfl ?_
    refine X_iconst (v := 1) C dX0_worth_49 rfl ?_
    refine X_icmp_ne (tgt := 57) C dX0_worth_50 (by decide) (fun c183 => ?_) (fun c183 => ?_)
    · have h := h.1 c183
      refine X_iconst (v := 0) C dX0_worth_57 rfl ?_
      refine X_sub [0, 2] (lo2 := [(0, _), (2, _)]) rfl ?_
      exact t_X0_worth_b58 hX hd C hn s51 x2 0 (sR s51 2 7) h
    · have h := h.2 c183
      refine X_iconst (v := 1) C dX0_worth_53 rfl ?_
      refine X_goto (tgt := 58) C dX0_worth_54 (by decide) ?_
      refine X_sub [0, 2] (lo2 := [(0, _), (2, _)]) rfl ?_
      exact t_X0_worth_b58 hX hd C hn s51 x2 1 (sR s51 2 7) h
def w_X0_worth_b23 (Φ : St → Int64 → Prop) (st : St) (x1 : Int32) (x2 : Int32) : Prop := w_X0_worth_b24 Φ st x1 x2 0
theorem t_X0_worth_b23 {θ : Th} {κ : Kx} {Ph : Ph} (hX : LX θ) {d : Nat} (hd : 14 ≤ d) (C : Cx θ κ yX0_worth cX0_worth 5 (some Jvm.ClassFile.FieldType.long) [(0, 65, 118, 377), (66, 117, 118, 377), (0, 65, 124, 1), (66, 117, 124, 1)] d) {Φ : St → Int64 → Prop} (hn : ∀ st r, Φ st r → Ph.1 st (some (.long r))) (st : St) (x1 : Int32) (x2 : Int32) (h : w_X0_worth_b23 Φ st x1 x2) : X θ κ Ph st 23 [(0, .ref (ad θ 0)), (1, .int x1), (2, .int x2)] [] := by
  unfold w_X0_worth_b23 at h
  refine X_iconst (v := 0) C dX0_worth_23 rfl ?_
  exact t_X0_worth_b24 hX hd C hn st x1 x2 0 h
def w_X0_worth (st : St) (p1 : Int32) (p2 : Int32) (Φ : St → Int64 → Prop) : Prop := w_X0_in p1.toInt64 0 2 (fun (r1 : Int32) => ((r1 = 0) → w_X0_worth_b23 Φ st p1 p2) ∧ ((¬ r1 = 0) → w_X0_isPart p2 (fun (r215 : Int32) => ((r215 = 0) → w_X0_worth_b23 Φ st p1 p2) ∧ ((¬ r215 = 0) → w_X0_worth_b24 Φ st p1 p2 1))))
theorem e_X0_worth : plainFor yX0_worth = true := plainFor_of_name (by decide +kernel)
theorem m_X0_worth {θ : Th} {l : Launch} (hl0 : l.stackTraces = false) (hX : LX θ) {d : Nat} (hd : 14 ≤ d) (st : St) (p1 : Int32) (p2 : Int32) {Φ : St → Int64 → Prop} (h : w_X0_worth st p1 p2 Φ) : Ct θ l yX0_worth (wsW_ yX0_worth cX0_worth 5 (some Jvm.ClassFile.FieldType.long) [(0, 65, 118, 377), (66, 117, 118, 377), (0, 65, 124, 1), (66, 117, 124, 1)]) d [.ref (ad θ 0), .int p1, .int p2] st (pL Φ, noX) := by
  refine Ct_entryW hl0 e_X0_worth (Nat.le_of_ble_eq_true rfl) (fun κ hκ _ C => ?_)
  have hn : ∀ st r, Φ st r → ((pL Φ, noX) : Ph).1 st (some (.long r)) := fun st r q => ⟨r, rfl, q⟩
  change X _ _ _ _ _ [(0, .ref (ad θ 0)), (1, .int p1), (2, .int p2)] _
  unfold w_X0_worth at h
  refine X_iload_n C dX0_worth_0 rfl 1 rfl ?_
  refine X_i2l C dX0_worth_1 ?_
  refine X_lconst (v := 0) C dX0_worth_2 rfl ?_
  refine X_ldc2 C q413 dX0_worth_3 ?_
  refine X_callS (As := [_, _, _]) (rest := []) C q415 q416 q132 q417 nm_X0_in rfl dX0_worth_6 (m_X0_in (Cx_l C) (d := d - 1) (by omega) st p1.toInt64 0 2 h) (by omega) (by decide) (Nat.le_of_ble_eq_true rfl) (fun s7 w2 hE3 hP4 => ?_) (fun s8 E5 q6 hE3 hP4 => ?_)
  rotate_left
  · exact False.elim hP4
  obtain ⟨r1, rfl, rfl, h⟩ := hP4
  refine X_tls ?_
  refine X_if_eq (tgt := 23) C dX0_worth_9 (by decide) (fun c9 => ?_) (fun c9 => ?_)
  · have h := h.1 c9
    exact t_X0_worth_b23 hX hd C hn st p1 p2 h
  · have h := h.2 c9
    refine X_iload_n C dX0_worth_12 rfl 2 rfl ?_
    refine X_callS (As := [_]) (rest := []) C q658 q659 q132 q660 nm_X0_isPart rfl dX0_worth_13 (m_X0_isPart (Cx_l C) (d := d - 1) (by omega) st p2 h) (by omega) (by decide) (Nat.le_of_ble_eq_true rfl) (fun s221 w216 hE217 hP218 => ?_) (fun s222 E219 q220 hE217 hP218 => ?_)
    rotate_left
    · exact False.elim hP218
    obtain ⟨r215, rfl, rfl, h⟩ := hP218
    refine X_tls ?_
    refine X_if_eq (tgt := 23) C dX0_worth_16 (by decide) (fun c223 => ?_) (fun c223 => ?_)
    · have h := h.1 c223
      exact t_X0_worth_b23 hX hd C hn st p1 p2 h
    · have h := h.2 c223
      refine X_iconst (v := 1) C dX0_worth_19 rfl ?_
      refine X_goto (tgt := 24) C dX0_worth_20 (by decide) ?_
      exact t_X0_worth_b24 hX hd C hn st p1 p2 1 h

theorem nm_X0_pointTold : yX0_pointTold.cls ≠ "java/lang/invoke/MethodHandle" ∧ yX0_pointTold.cls ≠ "java/lang/invoke/VarHandle" ∧ (parseMethodDescriptor yX0_pointTold.desc).map (fun d => d.parameters.length) = some 1 := by decide +kernel
def w_X0_pointTold_l33 (Φ : St → Nat → Prop) (Φw : St → Nat → Prop) (Φa : St → Prop) (E85 : St → Int32 → Nat → Prop) : Nat → St → Int32 → Nat → Int32 → Prop
  | 0, _, _, _, _ => False
  | n + 1, st, x1, x2, x3 => (((sI st 2 0) ≤ x3) → E85 st x1 x2) ∧ ((¬ (sI st 2 0) ≤ x3) → sN st + 1 ≤ gCAP ∧ sS st + 4 ≤ gCAPS ∧ ∀ s52, s52 = mk st 11 4 → w_J11_init s52 (sN st) (fun (s58 : St) => w_J11_append_2 s58 (sN st) x2 (fun (s66 : St) (r65 : Nat) => w_J11_append_2 s66 r65 (gBIG + 2 * 11) (fun (s78 : St) (r77 : Nat) => vp_in x1 15 ∧ vp_in x3 3 ∧ w_J11_append_3 s78 r77 (sI s78 (2 + (16 + x1.toNatClampNeg)) x3.toNatClampNeg) (fun (s90 : St) (r89 : Nat) => w_J11_toString s90 r89 (fun (s100 : St) (r99 : Nat) => w_X0_pointTold_l33 Φ Φw Φa E85 n s100 x1 r99 (x3 + 1)))))))
theorem t_X0_pointTold_l33 {θ : Th} {κ : Kx} {Ph : Ph} (hX : LX θ) {d : Nat} (hd : 9 ≤ d) (C : Cx θ κ yX0_pointTold cX0_pointTold 4 (some (Jvm.ClassFile.FieldType.object "java/lang/String")) [] d) {Φ : St → Nat → Prop} {Φw : St → Nat → Prop} {Φa : St → Prop} (hn : ∀ st r, r < gBIG → sh st r = 10 → Φ st r → Ph.1 st (some (.ref (ad θ r)))) (hw : ∀ st a, a < gBIG → sh st a = 6 → Φw st a → Ph.2 st "SecretsWorth$Wrong" (ad θ a)) (ha : ∀ st q, Φa st → Ph.2 st "java/lang/ArithmeticException" q) {E85 : St → Int32 → Nat → Prop} (hE85 : ∀ (st : St) (x1 : Int32) (x2 : Nat), sh st x2 = 10 → x2 < gBIG → E85 st x1 x2 → X θ κ Ph st 85 [(0, .ref (ad θ 0)), (1, .int x1), (2, .ref (ad θ x2))] []) : ∀ (n : Nat) (st : St) (x1 : Int32) (x2 : Nat) (x3 : Int32), sh st x2 = 10 → x2 < gBIG → w_X0_pointTold_l33 Φ Φw Φa E85 n st x1 x2 x3 → X θ κ Ph st 33 [(0, .ref (ad θ 0)), (1, .int x1), (2, .ref (ad θ x2)), (3, .int x3)] [] := by
  intro n
  induction n with
  | zero => intro st x1 x2 x3 hs_x2 hb_x2 h; exact h.elim
  | succ n hK33 =>
    intro st x1 x2 x3 hs_x2 hb_x2 h
    rw [w_X0_pointTold_l33] at h
    refine X_iload_n C dX0_pointTold_33 rfl 3 rfl ?_
    refine X_aload_n C dX0_pointTold_34 rfl 0 rfl (isRV_r _) ?_
    refine X_getF (ci := 0) (j := 1) (q := (RX0, TX0, 49)) C rfl (by decide) q261 rfl dX0_pointTold_35 (b := 2) (LX_S hX (k := 0) rfl) (LX_F hX (k := 0) (j := 1) rfl) rfl ?_
    refine X_getNS (ci := 1) (j := 0) (q := (RX1, TX1, 10)) C rfl (by decide) q189 rfl dX0_pointTold_38 (LH_0 (LX_H2 hX)) (v := .int (sI st 2 0)) rfl ?_
    refine X_icmp_ge (tgt := 85) C dX0_pointTold_41 (by decide) (fun c49 => ?_) (fun c49 => ?_)
    · have h := h.1 c49
      refine X_sub [0, 1, 2] (lo2 := [(0, _), (1, _), (2, _)]) rfl ?_
      exact hE85 st x1 x2 hs_x2 hb_x2 h
    · have h := h.2 c49
      have g50 := h.1
      have h := h.2
      have g51 := h.1
      have h := h.2
      refine X_new (ci := 10) (q := (RJ11, TJ11, 4)) C rfl q962 q963 q151 g50 g51 dX0_pointTold_44 (fun hE54 => ?_)
      refine X_nm (fun s52 e53 => ?_)
      have h := h s52 e53
      rw [← e53] at hE54
      have hs_x2 := Ext_sh hE54 hs_x2 (by decide)
      have hs55 : sh s52 (sN st) = 11 := by rw [e53]; exact sh_mk
      have hb56 := nb_N g50
      refine X_dup C dX0_pointTold_47 rfl ?_
      refine X_callI (As := []) (rest := [_]) C q964 q965 q151 q966 rfl nm_J11_init rfl dX0_pointTold_48 (m_J11_init (Cx_l C) hX (d := d - 1) (by omega) s52 (sN st) hs55 hb56 h) (by omega) (by decide) (Nat.le_of_ble_eq_true rfl) (fun s58 w59 hE60 hP61 => ?_) (fun s64 E62 q63 hE60 hP61 => ?_)
      rotate_left
      · exact False.elim hP61
      obtain ⟨rfl, h⟩ := hP61
      refine X_tln ?_
      have hs_x2 := Ext_sh hE60 hs_x2 (by decide)
      have hs55 := Ext_sh hE60 hs55 (by decide)
      refine X_aload_n C dX0_pointTold_51 rfl 2 rfl (isRV_r _) ?_
      refine X_callV (ci := 10) (q := (RJ11, TJ11, 4)) (As := [_]) (rest := []) C rfl hs55 q1356 q1357 q1358 q151 q1359 ⟨rfl, nm_J11_append_2⟩ rfl dX0_pointTold_52 (m_J11_append_2 (Cx_l C) hX (d := d - 1) (by omega) s58 (sN st) x2 hs55 hb56 hs_x2 h) (by omega) (by decide) (Nat.le_of_ble_eq_true rfl) (fun s66 w67 hE68 hP69 => ?_) (fun s72 E70 q71 hE68 hP69 => ?_)
      rotate_left
      · exact False.elim hP69
      obtain ⟨r65, rfl, hb73, hs74, h⟩ := hP69
      refine X_tls ?_
      have hs_x2 := Ext_sh hE68 hs_x2 (by decide)
      have hs55 := Ext_sh hE68 hs55 (by decide)
      refine X_ldcws (tx := ",") (i := 11) C (by decide +kernel) dX0_pointTold_55 ?_
      refine X_con (fun hc75 => ?_)
      have hs76 : sh s66 (gBIG + 2 * 11) = 10 := con_str hc75 (by decide)
      refine X_callV (ci := 10) (q := (RJ11, TJ11, 4)) (As := [_]) (rest := []) C rfl hs74 q1356 q1357 q1358 q151 q1359 ⟨rfl, nm_J11_append_2⟩ rfl dX0_pointTold_58 (m_J11_append_2 (Cx_l C) hX (d := d - 1) (by omega) s66 r65 (gBIG + 2 * 11) hs74 hb73 hs76 h) (by omega) (by decide) (Nat.le_of_ble_eq_true rfl) (fun s78 w79 hE80 hP81 => ?_) (fun s84 E82 q83 hE80 hP81 => ?_)
      rotate_left
      · exact False.elim hP81
      obtain ⟨r77, rfl, hb85, hs86, h⟩ := hP81
      refine X_tls ?_
      have hs_x2 := Ext_sh hE80 hs_x2 (by decide)
      have hs55 := Ext_sh hE80 hs55 (by decide)
      have hs74 := Ext_sh hE80 hs74 (by decide)
      have hs76 := Ext_sh hE80 hs76 (by decide)
      refine X_aload_n C dX0_pointTold_61 rfl 0 rfl (isRV_r _) ?_
      refine X_getF (ci := 0) (j := 1) (q := (RX0, TX0, 49)) C rfl (by decide) q261 rfl dX0_pointTold_62 (b := 2) (LX_S hX (k := 0) rfl) (LX_F hX (k := 0) (j := 1) rfl) rfl ?_
      refine X_getNF (ci := 1) (j := 8) (q := (RX1, TX1, 10)) C rfl (by decide) q205 rfl dX0_pointTold_65 (b := (2 + 15)) (LH_0 (LX_H2 hX)) (LH_F (LX_H2 hX) (k := 0) (j := 8) rfl) rfl ?_
      refine X_iload_n C dX0_pointTold_68 rfl 1 rfl ?_
      have g87 := h.1
      have h := h.2
      refine X_aaldF C 6 rfl (LH_S (LX_H2 hX) (k := 15) rfl) (by decide) rfl (LH_L (LX_H2 hX) (k := 15) rfl) g87 rfl (b := (2 + (16 + x1.toNatClampNeg))) (LHf_give (LX_H2 hX) (i := x1.toNatClampNeg) (in_lt g87)).2.2 dX0_pointTold_69 rfl ?_
      refine X_iload_n C dX0_pointTold_70 rfl 3 rfl ?_
      have g88 := h.1
      have h := h.2
      refine X_ialdS C (LHf_give (LX_H2 hX) (i := x1.toNatClampNeg) (in_lt g87)).1 (LHf_give (LX_H2 hX) (i := x1.toNatClampNeg) (in_lt g87)).2.1 g88 rfl dX0_pointTold_71 ?_
      refine X_callV (ci := 10) (q := (RJ11, TJ11, 4)) (As := [_]) (rest := []) C rfl hs86 q1402 q1403 q1404 q151 q1405 ⟨rfl, nm_J11_append_3⟩ rfl dX0_pointTold_72 (m_J11_append_3 (Cx_l C) hX (d := d - 1) (by omega) s78 r77 (sI s78 (2 + (16 + x1.toNatClampNeg)) x3.toNatClampNeg) hs86 hb85 h) (by omega) (by decide) (Nat.le_of_ble_eq_true rfl) (fun s90 w91 hE92 hP93 => ?_) (fun s96 E94 q95 hE92 hP93 => ?_)
      rotate_left
      · exact False.elim hP93
      obtain ⟨r89, rfl, hb97, hs98, h⟩ := hP93
      refine X_tls ?_
      have hs_x2 := Ext_sh hE92 hs_x2 (by decide)
      have hs55 := Ext_sh hE92 hs55 (by decide)
      have hs74 := Ext_sh hE92 hs74 (by decide)
      have hs76 := Ext_sh hE92 hs76 (by decide)
      have hs86 := Ext_sh hE92 hs86 (by decide)
      refine X_callV (ci := 10) (q := (RJ11, TJ11, 4)) (As := []) (rest := []) C rfl hs98 q1086 q1087 q1088 q151 q1089 ⟨rfl, nm_J11_toString⟩ rfl dX0_pointTold_75 (m_J11_toString (Cx_l C) hX (d := d - 1) (by omega) s90 r89 hs98 hb97 h) (by omega) (by decide) (Nat.le_of_ble_eq_true rfl) (fun s100 w101 hE102 hP103 => ?_) (fun s106 E104 q105 hE102 hP103 => ?_)
      rotate_left
      · exact False.elim hP103
      obtain ⟨r99, rfl, hb107, hs108, h⟩ := hP103
      refine X_tls ?_
      have hs_x2 := Ext_sh hE102 hs_x2 (by decide)
      have hs55 := Ext_sh hE102 hs55 (by decide)
      have hs74 := Ext_sh hE102 hs74 (by decide)
      have hs76 := Ext_sh hE102 hs76 (by decide)
      have hs86 := Ext_sh hE102 hs86 (by decide)
      have hs98 := Ext_sh hE102 hs98 (by decide)
      refine X_astore_n C dX0_pointTold_78 rfl (isRV_r _) (lo2 := [(2, _), (0, _), (1, _), (3, _)]) (by decide) rfl ?_
      refine X_iinc (v := (x3 + 1)) C (j := 3) dX0_pointTold_79 rfl rfl (lo2 := [(3, _), (2, _), (0, _), (1, _)]) (by decide) rfl ?_
      refine X_goto (tgt := 33) C dX0_pointTold_82 (by decide) ?_
      refine X_sub [2, 3, 1, 0] (lo2 := [(0, _), (1, _), (2, _), (3, _)]) rfl ?_
      exact hK33 s100 x1 r99 (x3 + 1) hs108 hb107 h
def w_X0_pointTold_b85 (Φ : St → Nat → Prop) (Φw : St → Nat → Prop) (Φa : St → Prop) (st : St) (x1 : Int32) (x2 : Nat) : Prop := w_X0_worthOf st x1 (fun (s111 : St) (r110 : Nat) => sN s111 + 1 ≤ gCAP ∧ sS s111 + 4 ≤ gCAPS ∧ ∀ s122, s122 = mk s111 11 4 → w_J11_init s122 (sN s111) (fun (s128 : St) => w_J11_append_2 s128 (sN s111) x2 (fun (s136 : St) (r135 : Nat) => w_X8_behindv3 s136 r110 (gBIG + 2 * 12) (fun (s148 : St) (r147 : Nat) => w_J11_append_2 s148 r135 r147 (fun (s158 : St) (r157 : Nat) => w_J11_toString s158 r157 (fun (s168 : St) (r167 : Nat) => Φ s168 r167)))))) Φw Φa
theorem t_X0_pointTold_b85 {θ : Th} {κ : Kx} {Ph : Ph} (hX : LX θ) {d : Nat} (hd : 9 ≤ d) (C : Cx θ κ yX0_pointTold cX0_pointTold 4 (some (Jvm.ClassFile.FieldType.object "java/lang/String")) [] d) {Φ : St → Nat → Prop} {Φw : St → Nat → Prop} {Φa : St → Prop} (hn : ∀ st r, r < gBIG → sh st r = 10 → Φ st r → Ph.1 st (some (.ref (ad θ r)))) (hw : ∀ st a, a < gBIG → sh st a = 6 → Φw st a → Ph.2 st "SecretsWorth$Wrong" (ad θ a)) (ha : ∀ st q, Φa st → Ph.2 st "java/lang/ArithmeticException" q) (st : St) (x1 : Int32) (x2 : Nat) (hs_x2 : sh st x2 = 10) (hb_x2 : x2 < gBIG) (h : w_X0_pointTold_b85 Φ Φw Φa st x1 x2) : X θ κ Ph st 85 [(0, .ref (ad θ 0)), (1, .int x1), (2, .ref (ad θ x2))] [] := by
  unfold w_X0_pointTold_b85 at h
  refine X_aload_n C dX0_pointTold_85 rfl 0 rfl (isRV_r _) ?_
  refine X_iload_n C dX0_pointTold_86 rfl 1 rfl ?_
  refine X_callVS (ci := 0) (q := (RX0, TX0, 49)) (As := [_]) (rest := []) C rfl (LX_S hX (k := 0) rfl) q661 q663 qs5 q132 q664 ⟨rfl, nm_X0_worthOf⟩ rfl dX0_pointTold_87 (m_X0_worthOf (Cx_l C) hX (d := d - 1) (by omega) st x1 h) (by omega) (by decide) (Nat.le_of_ble_eq_true rfl) (fun s111 w112 hE113 hP114 => ?_) (fun s117 E115 q116 hE113 hP114 => ?_)
  rotate_left
  · rcases hP114 with ⟨rfl, a_, rfl, hb_, hs_, h⟩ | ⟨rfl, h⟩
    · exact XT_out C rfl (hw s117 a_ hb_ hs_ h)
    · exact XT_out C rfl (ha s117 q116 h)
  obtain ⟨r110, rfl, hb118, hs119, h⟩ := hP114
  refine X_tls ?_
  have hs_x2 := Ext_sh hE113 hs_x2 (by decide)
  refine X_astore_n C dX0_pointTold_90 rfl (isRV_r _) (lo2 := [(3, _), (0, _), (1, _), (2, _)]) (by decide) rfl ?_
  have g120 := h.1
  have h := h.2
  have g121 := h.1
  have h := h.2
  refine X_new (ci := 10) (q := (RJ11, TJ11, 4)) C rfl q962 q963 q151 g120 g121 dX0_pointTold_91 (fun hE124 => ?_)
  refine X_nm (fun s122 e123 => ?_)
  have h := h s122 e123
  rw [← e123] at hE124
  have hs_x2 := Ext_sh hE124 hs_x2 (by decide)
  have hs119 := Ext_sh hE124 hs119 (by decide)
  have hs125 : sh s122 (sN s111) = 11 := by rw [e123]; exact sh_mk
  have hb126 := nb_N g120
  refine X_dup C dX0_pointTold_94 rfl ?_
  refine X_callI (As := []) (rest := [_]) C q964 q965 q151 q966 rfl nm_J11_init rfl dX0_pointTold_95 (m_J11_init (Cx_l C) hX (d := d - 1) (by omega) s122 (sN s111) hs125 hb126 h) (by omega) (by decide) (Nat.le_of_ble_eq_true rfl) (fun s128 w129 hE130 hP131 => ?_) (fun s134 E132 q133 hE130 hP131 => ?_)
  rotate_left
  · exact False.elim hP131
  obtain ⟨rfl, h⟩ := hP131
  refine X_tln ?_
  have hs_x2 := Ext_sh hE130 hs_x2 (by decide)
  have hs119 := Ext_sh hE130 hs119 (by decide)
  have hs125 := Ext_sh hE130 hs125 (by decide)
  refine X_aload_n C dX0_pointTold_98 rfl 3 rfl (isRV_r _) ?_
  refine X_callV (ci := 10) (q := (RJ11, TJ11, 4)) (As := [_]) (rest := []) C rfl hs125 q1356 q1357 q1358 q151 q1359 ⟨rfl, nm_J11_append_2⟩ rfl dX0_pointTold_99 (m_J11_append_2 (Cx_l C) hX (d := d - 1) (by omega) s128 (sN s111) x2 hs125 hb126 hs_x2 h) (by omega) (by decide) (Nat.le_of_ble_eq_true rfl) (fun s136 w137 hE138 hP139 => ?_) (fun s142 E140 q141 hE138 hP139 => ?_)
  rotate_left
  · exact False.elim hP139
  obtain ⟨r135, rfl, hb143, hs144, h⟩ := hP139
  refine X_tls ?_
  have hs_x2 := Ext_sh hE138 hs_x2 (by decide)
  have hs119 := Ext_sh hE138 hs119 (by decide)
  have hs125 := Ext_sh hE138 hs125 (by decide)
  refine X_aload_n C dX0_pointTold_102 rfl 0 rfl (isRV_r _) ?_
  refine X_ldcws (tx := ")=") (i := 12) C (by decide +kernel) dX0_pointTold_103 ?_
  refine X_con (fun hc145 => ?_)
  have hs146 : sh s136 (gBIG + 2 * 12) = 10 := con_str hc145 (by decide)
  refine X_callFD (ci := 2) (q := (RX2, TX2, 2)) (As := [_]) (rest := [_]) C rfl hs119 (by simp [gIF]; try decide) (by simp [gDF]; try decide) q1430 q1435 q159 q1437 nmF_0 rfl dX0_pointTold_106 (m_X8_behindv3 (Cx_l C) hX (d := d - 1) (by omega) s136 r110 (gBIG + 2 * 12) hs119 hb118 hs146 h) (by omega) (by decide) (Nat.le_of_ble_eq_true rfl) (fun s148 w149 hE150 hP151 => ?_) (fun s154 E152 q153 hE150 hP151 => ?_)
  rotate_left
  · exact False.elim hP151
  obtain ⟨r147, rfl, hb155, hs156, h⟩ := hP151
  refine X_tls ?_
  have hs_x2 := Ext_sh hE150 hs_x2 (by decide)
  have hs119 := Ext_sh hE150 hs119 (by decide)
  have hs125 := Ext_sh hE150 hs125 (by decide)
  have hs144 := Ext_sh hE150 hs144 (by decide)
  have hs146 := Ext_sh hE150 hs146 (by decide)
  refine X_callV (ci := 10) (q := (RJ11, TJ11, 4)) (As := [_]) (rest := []) C rfl hs144 q1356 q1357 q1358 q151 q1359 ⟨rfl, nm_J11_append_2⟩ rfl dX0_pointTold_111 (m_J11_append_2 (Cx_l C) hX (d := d - 1) (by omega) s148 r135 r147 hs144 hb143 hs156 h) (by omega) (by decide) (Nat.le_of_ble_eq_true rfl) (fun s158 w159 hE160 hP161 => ?_) (fun s164 E162 q163 hE160 hP161 => ?_)
  rotate_left
  · exact False.elim hP161
  obtain ⟨r157, rfl, hb165, hs166, h⟩ := hP161
  refine X_tls ?_
  have hs_x2 := Ext_sh hE160 hs_x2 (by decide)
  have hs119 := Ext_sh hE160 hs119 (by decide)
  have hs125 := Ext_sh hE160 hs125 (by decide)
  have hs144 := Ext_sh hE160 hs144 (by decide)
  have hs146 := Ext_sh hE160 hs146 (by decide)
  have hs156 := Ext_sh hE160 hs156 (by decide)
  refine X_callV (ci := 10) (q := (RJ11, TJ11, 4)) (As := []) (rest := []) C rfl hs166 q1086 q1087 q1088 q151 q1089 ⟨rfl, nm_J11_toString⟩ rfl dX0_pointTold_114 (m_J11_toString (Cx_l C) hX (d := d - 1) (by omega) s158 r157 hs166 hb165 h) (by omega) (by decide) (Nat.le_of_ble_eq_true rfl) (fun s168 w169 hE170 hP171 => ?_) (fun s174 E172 q173 hE170 hP171 => ?_)
  rotate_left
  · exact False.elim hP171
  obtain ⟨r167, rfl, hb175, hs176, h⟩ := hP171
  refine X_tls ?_
  have hs_x2 := Ext_sh hE170 hs_x2 (by decide)
  have hs119 := Ext_sh hE170 hs119 (by decide)
  have hs125 := Ext_sh hE170 hs125 (by decide)
  have hs144 := Ext_sh hE170 hs144 (by decide)
  have hs146 := Ext_sh hE170 hs146 (by decide)
  have hs156 := Ext_sh hE170 hs156 (by decide)
  have hs166 := Ext_sh hE170 hs166 (by decide)
  exact X_aret C rfl (Or.inl ⟨_, rfl⟩) (isRV_r _) dX0_pointTold_117 (hn s168 _ hb175 hs176 h)
def w_X0_pointTold (st : St) (p1 : Int32) (Φ : St → Nat → Prop) (Φw : St → Nat → Prop) (Φa : St → Prop) : Prop := sN st + 1 ≤ gCAP ∧ sS st + 4 ≤ gCAPS ∧ ∀ s3, s3 = mk st 11 4 → w_J11_init s3 (sN st) (fun (s9 : St) => w_J11_append_2 s9 (sN st) (gBIG + 2 * 10) (fun (s19 : St) (r18 : Nat) => vp_in p1 15 ∧ w_J11_append_3 s19 r18 (sI s19 (2 + (16 + p1.toNatClampNeg)) 0) (fun (s30 : St) (r29 : Nat) => w_J11_toString s30 r29 (fun (s40 : St) (r39 : Nat) => w_X0_pointTold_l33 Φ Φw Φa (fun (s109 : St) (x1 : Int32) (x2 : Nat) => w_X0_pointTold_b85 Φ Φw Φa s109 x1 x2) gFU s40 p1 r39 1))))
theorem e_X0_pointTold : plainFor yX0_pointTold = true := plainFor_of_name (by decide +kernel)
theorem m_X0_pointTold {θ : Th} {l : Launch} (hl0 : l.stackTraces = false) (hX : LX θ) {d : Nat} (hd : 9 ≤ d) (st : St) (p1 : Int32) {Φ : St → Nat → Prop} {Φw : St → Nat → Prop} {Φa : St → Prop} (h : w_X0_pointTold st p1 Φ Φw Φa) : Ct θ l yX0_pointTold (ws_ yX0_pointTold cX0_pointTold 4 (some (Jvm.ClassFile.FieldType.object "java/lang/String"))) d [.ref (ad θ 0), .int p1] st (pN θ 10 Φ, (exOr (exW θ Φw) (exA Φa))) := by
  refine Ct_entry hl0 e_X0_pointTold (Nat.le_of_ble_eq_true rfl) (fun κ hκ _ C => ?_)
  have hn : ∀ st r, r < gBIG → sh st r = 10 → Φ st r → ((pN θ 10 Φ, (exOr (exW θ Φw) (exA Φa))) : Ph).1 st (some (.ref (ad θ r))) := fun st r q1 q2 q => ⟨r, rfl, q1, q2, q⟩
  have hw : ∀ st a, a < gBIG → sh st a = 6 → Φw st a → ((pN θ 10 Φ, (exOr (exW θ Φw) (exA Φa))) : Ph).2 st "SecretsWorth$Wrong" (ad θ a) := fun st a q1 q2 q => Or.inl ⟨rfl, a, rfl, q1, q2, q⟩
  have ha : ∀ st q, Φa st → ((pN θ 10 Φ, (exOr (exW θ Φw) (exA Φa))) : Ph).2 st "java/lang/ArithmeticException" q := fun st q2 q => Or.inr (⟨rfl, q⟩)
  change X _ _ _ _ _ [(0, .ref (ad θ 0)), (1, .int p1)] _
  unfold w_X0_pointTold at h
  have g1 := h.1
  have h := h.2
  have g2 := h.1
  have h := h.2
  refine X_new (ci := 10) (q := (RJ11, TJ11, 4)) C rfl q962 q963 q151 g1 g2 dX0_pointTold_0 (fun hE5 => ?_)
  refine X_nm (fun s3 e4 => ?_)
  have h := h s3 e4
  rw [← e4] at hE5
  have hs6 : sh s3 (sN st) = 11 := by rw [e4]; exact sh_mk
  have hb7 := nb_N g1
  refine X_dup C dX0_pointTold_3 rfl ?_
  refine X_callI (As := []) (rest := [_]) C q964 q965 q151 q966 rfl nm_J11_init rfl dX0_pointTold_4 (m_J11_init (Cx_l C) hX (d := d - 1) (by omega) s3 (sN st) hs6 hb7 h) (by omega) (by decide) (Nat.le_of_ble_eq_true rfl) (fun s9 w10 hE11 hP12 => ?_) (fun s15 E13 q14 hE11 hP12 => ?_)
  rotate_left
  · exact False.elim hP12
  obtain ⟨rfl, h⟩ := hP12
  refine X_tln ?_
  have hs6 := Ext_sh hE11 hs6 (by decide)
  refine X_ldcws (tx := "(") (i := 10) C (by decide +kernel) dX0_pointTold_7 ?_
  refine X_con (fun hc16 => ?_)
  have hs17 : sh s9 (gBIG + 2 * 10) = 10 := con_str hc16 (by decide)
  refine X_callV (ci := 10) (q := (RJ11, TJ11, 4)) (As := [_]) (rest := []) C rfl hs6 q1356 q1357 q1358 q151 q1359 ⟨rfl, nm_J11_append_2⟩ rfl dX0_pointTold_10 (m_J11_append_2 (Cx_l C) hX (d := d - 1) (by omega) s9 (sN st) (gBIG + 2 * 10) hs6 hb7 hs17 h) (by omega) (by decide) (Nat.le_of_ble_eq_true rfl) (fun s19 w20 hE21 hP22 => ?_) (fun s25 E23 q24 hE21 hP22 => ?_)
  rotate_left
  · exact False.elim hP22
  obtain ⟨r18, rfl, hb26, hs27, h⟩ := hP22
  refine X_tls ?_
  have hs6 := Ext_sh hE21 hs6 (by decide)
  have hs17 := Ext_sh hE21 hs17 (by decide)
  refine X_aload_n C dX0_pointTold_13 rfl 0 rfl (isRV_r _) ?_
  refine X_getF (ci := 0) (j := 1) (q := (RX0, TX0, 49)) C rfl (by decide) q261 rfl dX0_pointTold_14 (b := 2) (LX_S hX (k := 0) rfl) (LX_F hX (k := 0) (j := 1) rfl) rfl ?_
  refine X_getNF (ci := 1) (j := 8) (q := (RX1, TX1, 10)) C rfl (by decide) q205 rfl dX0_pointTold_17 (b := (2 + 15)) (LH_0 (LX_H2 hX)) (LH_F (LX_H2 hX) (k := 0) (j := 8) rfl) rfl ?_
  refine X_iload_n C dX0_pointTold_20 rfl 1 rfl ?_
  have g28 := h.1
  have h := h.2
  refine X_aaldF C 6 rfl (LH_S (LX_H2 hX) (k := 15) rfl) (by decide) rfl (LH_L (LX_H2 hX) (k := 15) rfl) g28 rfl (b := (2 + (16 + p1.toNatClampNeg))) (LHf_give (LX_H2 hX) (i := p1.toNatClampNeg) (in_lt g28)).2.2 dX0_pointTold_21 rfl ?_
  refine X_iconst (v := 0) C dX0_pointTold_22 rfl ?_
  refine X_ialdS C (LHf_give (LX_H2 hX) (i := p1.toNatClampNeg) (in_lt g28)).1 (LHf_give (LX_H2 hX) (i := p1.toNatClampNeg) (in_lt g28)).2.1 (vp_dec rfl) rfl dX0_pointTold_23 ?_
  refine X_callV (ci := 10) (q := (RJ11, TJ11, 4)) (As := [_]) (rest := []) C rfl hs27 q1402 q1403 q1404 q151 q1405 ⟨rfl, nm_J11_append_3⟩ rfl dX0_pointTold_24 (m_J11_append_3 (Cx_l C) hX (d := d - 1) (by omega) s19 r18 (sI s19 (2 + (16 + p1.toNatClampNeg)) 0) hs27 hb26 h) (by omega) (by decide) (Nat.le_of_ble_eq_true rfl) (fun s30 w31 hE32 hP33 => ?_) (fun s36 E34 q35 hE32 hP33 => ?_)
  rotate_left
  · exact False.elim hP33
  obtain ⟨r29, rfl, hb37, hs38, h⟩ := hP33
  refine X_tls ?_
  have hs6 := Ext_sh hE32 hs6 (by decide)
  have hs17 := Ext_sh hE32 hs17 (by decide)
  have hs27 := Ext_sh hE32 hs27 (by decide)
  refine X_callV (ci := 10) (q := (RJ11, TJ11, 4)) (As := []) (rest := []) C rfl hs38 q1086 q1087 q1088 q151 q1089 ⟨rfl, nm_J11_toString⟩ rfl dX0_pointTold_27 (m_J11_toString (Cx_l C) hX (d := d - 1) (by omega) s30 r29 hs38 hb37 h) (by omega) (by decide) (Nat.le_of_ble_eq_true rfl) (fun s40 w41 hE42 hP43 => ?_) (fun s46 E44 q45 hE42 hP43 => ?_)
  rotate_left
  · exact False.elim hP43
  obtain ⟨r39, rfl, hb47, hs48, h⟩ := hP43
  refine X_tls ?_
  have hs6 := Ext_sh hE42 hs6 (by decide)
  have hs17 := Ext_sh hE42 hs17 (by decide)
  have hs27 := Ext_sh hE42 hs27 (by decide)
  have hs38 := Ext_sh hE42 hs38 (by decide)
  refine X_astore_n C dX0_pointTold_30 rfl (isRV_r _) (lo2 := [(2, _), (0, _), (1, _)]) (by decide) rfl ?_
  refine X_iconst (v := 1) C dX0_pointTold_31 rfl ?_
  refine X_istore_n C dX0_pointTold_32 rfl (lo2 := [(3, _), (2, _), (0, _), (1, _)]) (by decide) rfl ?_
  refine X_sub [2, 3, 1, 0] (lo2 := [(0, _), (1, _), (2, _), (3, _)]) rfl ?_
  refine t_X0_pointTold_l33 hX hd C hn hw ha ?_ gFU s40 p1 r39 1 hs48 hb47 h
  · intro s109 x1 x2 hs_x2 hb_x2 h
    exact t_X0_pointTold_b85 hX hd C hn hw ha s109 x1 x2 hs_x2 hb_x2 h

theorem nm_X0_gameTold : yX0_gameTold.cls ≠ "java/lang/invoke/MethodHandle" ∧ yX0_gameTold.cls ≠ "java/lang/invoke/VarHandle" ∧ (parseMethodDescriptor yX0_gameTold.desc).map (fun d => d.parameters.length) = some 1 := by decide +kernel
def w_X0_gameTold_b67 (Φ : St → Nat → Prop) (K41 : St → Int32 → Nat → Int32 → Int32 → Prop) (st : St) (x1 : Int32) (x2 : Nat) (x3 : Int32) (x4 : Int32) (z0 : Nat) (z1 : Nat) : Prop := w_J11_append_2 st z1 z0 (fun (s35 : St) (r34 : Nat) => vp_in x1 3 ∧ vp_in x3 3 ∧ vp_in x4 3 ∧ w_J11_append_3 s35 r34 (sI s35 (2 + (3 + 4 * x1.toNatClampNeg + x3.toNatClampNeg)) x4.toNatClampNeg) (fun (s48 : St) (r47 : Nat) => K41 s48 x1 x2 x3 (x4 + 1)))
theorem t_X0_gameTold_b67 {θ : Th} {κ : Kx} {Ph : Ph} (hX : LX θ) {d : Nat} (hd : 6 ≤ d) (C : Cx θ κ yX0_gameTold cX0_gameTold 5 (some (Jvm.ClassFile.FieldType.object "java/lang/CharSequence")) [] d) {Φ : St → Nat → Prop} (hn : ∀ st r, r < gBIG → sh st r = 11 → Φ st r → Ph.1 st (some (.ref (ad θ r)))) {K41 : St → Int32 → Nat → Int32 → Int32 → Prop} (hK41 : ∀ (st : St) (x1 : Int32) (x2 : Nat) (x3 : Int32) (x4 : Int32), sh st x2 = 11 → x2 < gBIG → K41 st x1 x2 x3 x4 → X θ κ Ph st 41 [(0, .ref (ad θ 0)), (1, .int x1), (2, .ref (ad θ x2)), (3, .int x3), (4, .int x4)] []) (st : St) (x1 : Int32) (x2 : Nat) (x3 : Int32) (x4 : Int32) (z0 : Nat) (z1 : Nat) (hs_x2 : sh st x2 = 11) (hb_x2 : x2 < gBIG) (hs_z0 : sh st z0 = 10) (hs_z1 : sh st z1 = 11) (hb_z1 : z1 < gBIG) (h : w_X0_gameTold_b67 Φ K41 st x1 x2 x3 x4 z0 z1) : X θ κ Ph st 67 [(0, .ref (ad θ 0)), (1, .int x1), (2, .ref (ad θ x2)), (3, .int x3), (4, .int x4)] [.ref (ad θ z0), .ref (ad θ z1)] := by
  unfold w_X0_gameTold_b67 at h
  refine X_callV (ci := 10) (q := (RJ11, TJ11, 4)) (As := [_]) (rest := []) C rfl hs_z1 q1356 q1357 q1358 q151 q1359 ⟨rfl, nm_J11_append_2⟩ rfl dX0_gameTold_67 (m_J11_append_2 (Cx_l C) hX (d := d - 1) (by omega) st z1 z0 hs_z1 hb_z1 hs_z0 h) (by omega) (by decide) (Nat.le_of_ble_eq_true rfl) (fun s35 w36 hE37 hP38 => ?_) (fun s41 E39 q40 hE37 hP38 => ?_)
  rotate_left
  · exact False.elim hP38
  obtain ⟨r34, rfl, hb42, hs43, h⟩ := hP38
  refine X_tls ?_
  have hs_x2 := Ext_sh hE37 hs_x2 (by decide)
  have hs_z0 := Ext_sh hE37 hs_z0 (by decide)
  have hs_z1 := Ext_sh hE37 hs_z1 (by decide)
  refine X_aload_n C dX0_gameTold_70 rfl 0 rfl (isRV_r _) ?_
  refine X_getF (ci := 0) (j := 1) (q := (RX0, TX0, 49)) C rfl (by decide) q261 rfl dX0_gameTold_71 (b := 2) (LX_S hX (k := 0) rfl) (LX_F hX (k := 0) (j := 1) rfl) rfl ?_
  refine X_getNF (ci := 1) (j := 5) (q := (RX1, TX1, 10)) C rfl (by decide) q199 rfl dX0_gameTold_74 (b := (2 + 1)) (LH_0 (LX_H2 hX)) (LH_F (LX_H2 hX) (k := 0) (j := 5) rfl) rfl ?_
  refine X_iload_n C dX0_gameTold_77 rfl 1 rfl ?_
  have g44 := h.1
  have h := h.2
  refine X_aaldF C 7 rfl (LH_S (LX_H2 hX) (k := 1) rfl) (by decide) rfl (LH_L (LX_H2 hX) (k := 1) rfl) g44 rfl (b := (2 + (2 + 4 * x1.toNatClampNeg))) (LHf_sub (LX_H2 hX) (i := x1.toNatClampNeg) (in_lt g44)).2.2 dX0_gameTold_78 rfl ?_
  refine X_iload_n C dX0_gameTold_79 rfl 3 rfl ?_
  have g45 := h.1
  have h := h.2
  refine X_aaldF C 6 rfl (LHf_sub (LX_H2 hX) (i := x1.toNatClampNeg) (in_lt g44)).1 (by decide) rfl (LHf_sub (LX_H2 hX) (i := x1.toNatClampNeg) (in_lt g44)).2.1 g45 rfl (b := (2 + (3 + 4 * x1.toNatClampNeg + x3.toNatClampNeg))) (LHf_game (LX_H2 hX) (i := x1.toNatClampNeg) (j := x3.toNatClampNeg) (in_lt g44) (in_lt g45)).2.2 dX0_gameTold_80 rfl ?_
  refine X_iload C dX0_gameTold_81 4 rfl ?_
  have g46 := h.1
  have h := h.2
  refine X_ialdS C (LHf_game (LX_H2 hX) (i := x1.toNatClampNeg) (j := x3.toNatClampNeg) (in_lt g44) (in_lt g45)).1 (LHf_game (LX_H2 hX) (i := x1.toNatClampNeg) (j := x3.toNatClampNeg) (in_lt g44) (in_lt g45)).2.1 g46 rfl dX0_gameTold_83 ?_
  refine X_callV (ci := 10) (q := (RJ11, TJ11, 4)) (As := [_]) (rest := []) C rfl hs43 q1402 q1403 q1404 q151 q1405 ⟨rfl, nm_J11_append_3⟩ rfl dX0_gameTold_84 (m_J11_append_3 (Cx_l C) hX (d := d - 1) (by omega) s35 r34 (sI s35 (2 + (3 + 4 * x1.toNatClampNeg + x3.toNatClampNeg)) x4.toNatClampNeg) hs43 hb42 h) (by omega) (by decide) (Nat.le_of_ble_eq_true rfl) (fun s48 w49 hE50 hP51 => ?_) (fun s54 E52 q53 hE50 hP51 => ?_)
  rotate_left
  · exact False.elim hP51
  obtain ⟨r47, rfl, hb55, hs56, h⟩ := hP51
  refine X_tls ?_
  have hs_x2 := Ext_sh hE50 hs_x2 (by decide)
  have hs_z0 := Ext_sh hE50 hs_z0 (by decide)
  have hs_z1 := Ext_sh hE50 hs_z1 (by decide)
  have hs43 := Ext_sh hE50 hs43 (by decide)
  refine X_pop C dX0_gameTold_87 rfl ?_
  refine X_iinc (v := (x4 + 1)) C (j := 4) dX0_gameTold_88 rfl rfl (lo2 := [(4, _), (0, _), (1, _), (2, _), (3, _)]) (by decide) rfl ?_
  refine X_goto (tgt := 41) C dX0_gameTold_91 (by decide) ?_
  refine X_sub [1, 2, 3, 4, 0] (lo2 := [(0, _), (1, _), (2, _), (3, _), (4, _)]) rfl ?_
  exact hK41 s48 x1 x2 x3 (x4 + 1) hs_x2 hb_x2 h
def w_X0_gameTold_l41 (Φ : St → Nat → Prop) (E94 : St → Int32 → Nat → Int32 → Prop) : Nat → St → Int32 → Nat → Int32 → Int32 → Prop
  | 0, _, _, _, _, _ => False
  | n + 1, st, x1, x2, x3, x4 => (((sI st 2 3) ≤ x4) → E94 st x1 x2 x3) ∧ ((¬ (sI st 2 3) ≤ x4) → ((x4 ≠ 0) → w_X0_gameTold_b67 Φ (w_X0_gameTold_l41 Φ E94 n) st x1 x2 x3 x4 (gBIG + 2 * 11) x2) ∧ ((x4 = 0) → w_X0_gameTold_b67 Φ (w_X0_gameTold_l41 Φ E94 n) st x1 x2 x3 x4 (gBIG + 2 * 0) x2))
theorem t_X0_gameTold_l41 {θ : Th} {κ : Kx} {Ph : Ph} (hX : LX θ) {d : Nat} (hd : 6 ≤ d) (C : Cx θ κ yX0_gameTold cX0_gameTold 5 (some (Jvm.ClassFile.FieldType.object "java/lang/CharSequence")) [] d) {Φ : St → Nat → Prop} (hn : ∀ st r, r < gBIG → sh st r = 11 → Φ st r → Ph.1 st (some (.ref (ad θ r)))) {E94 : St → Int32 → Nat → Int32 → Prop} (hE94 : ∀ (st : St) (x1 : Int32) (x2 : Nat) (x3 : Int32), sh st x2 = 11 → x2 < gBIG → E94 st x1 x2 x3 → X θ κ Ph st 94 [(0, .ref (ad θ 0)), (1, .int x1), (2, .ref (ad θ x2)), (3, .int x3)] []) : ∀ (n : Nat) (st : St) (x1 : Int32) (x2 : Nat) (x3 : Int32) (x4 : Int32), sh st x2 = 11 → x2 < gBIG → w_X0_gameTold_l41 Φ E94 n st x1 x2 x3 x4 → X θ κ Ph st 41 [(0, .ref (ad θ 0)), (1, .int x1), (2, .ref (ad θ x2)), (3, .int x3), (4, .int x4)] [] := by
  intro n
  induction n with
  | zero => intro st x1 x2 x3 x4 hs_x2 hb_x2 h; exact h.elim
  | succ n hK41 =>
    intro st x1 x2 x3 x4 hs_x2 hb_x2 h
    rw [w_X0_gameTold_l41] at h
    refine X_iload C dX0_gameTold_41 4 rfl ?_
    refine X_aload_n C dX0_gameTold_43 rfl 0 rfl (isRV_r _) ?_
    refine X_getF (ci := 0) (j := 1) (q := (RX0, TX0, 49)) C rfl (by decide) q261 rfl dX0_gameTold_44 (b := 2) (LX_S hX (k := 0) rfl) (LX_F hX (k := 0) (j := 1) rfl) rfl ?_
    refine X_getNS (ci := 1) (j := 3) (q := (RX1, TX1, 10)) C rfl (by decide) q195 rfl dX0_gameTold_47 (LH_0 (LX_H2 hX)) (v := .int (sI st 2 3)) rfl ?_
    refine X_icmp_ge (tgt := 94) C dX0_gameTold_50 (by decide) (fun c30 => ?_) (fun c30 => ?_)
    · have h := h.1 c30
      refine X_sub [0, 1, 2, 3] (lo2 := [(0, _), (1, _), (2, _), (3, _)]) rfl ?_
      exact hE94 st x1 x2 x3 hs_x2 hb_x2 h
    · have h := h.2 c30
      refine X_aload_n C dX0_gameTold_53 rfl 2 rfl (isRV_r _) ?_
      refine X_iload C dX0_gameTold_54 4 rfl ?_
      refine X_if_ne (tgt := 64) C dX0_gameTold_56 (by decide) (fun c31 => ?_) (fun c31 => ?_)
      · have h := h.1 c31
        refine X_ldcws (tx := ",") (i := 11) C (by decide +kernel) dX0_gameTold_64 ?_
        refine X_con (fun hc32 => ?_)
        have hs33 : sh st (gBIG + 2 * 11) = 10 := con_str hc32 (by decide)
        exact t_X0_gameTold_b67 hX hd C hn hK41 st x1 x2 x3 x4 (gBIG + 2 * 11) x2 hs_x2 hb_x2 hs33 hs_x2 hb_x2 h
      · have h := h.2 c31
        refine X_ldcs (tx := "") (i := 0) C (by decide +kernel) dX0_gameTold_59 ?_
        refine X_con (fun hc57 => ?_)
        have hs58 : sh st (gBIG + 2 * 0) = 10 := con_str hc57 (by decide)
        refine X_goto (tgt := 67) C dX0_gameTold_61 (by decide) ?_
        exact t_X0_gameTold_b67 hX hd C hn hK41 st x1 x2 x3 x4 (gBIG + 2 * 0) x2 hs_x2 hb_x2 hs58 hs_x2 hb_x2 h
def w_X0_gameTold_b94 (Φ : St → Nat → Prop) (K10 : St → Int32 → Nat → Int32 → Prop) (st : St) (x1 : Int32) (x2 : Nat) (x3 : Int32) : Prop := K10 st x1 x2 (x3 + 1)
theorem t_X0_gameTold_b94 {θ : Th} {κ : Kx} {Ph : Ph} (hX : LX θ) {d : Nat} (hd : 6 ≤ d) (C : Cx θ κ yX0_gameTold cX0_gameTold 5 (some (Jvm.ClassFile.FieldType.object "java/lang/CharSequence")) [] d) {Φ : St → Nat → Prop} (hn : ∀ st r, r < gBIG → sh st r = 11 → Φ st r → Ph.1 st (some (.ref (ad θ r)))) {K10 : St → Int32 → Nat → Int32 → Prop} (hK10 : ∀ (st : St) (x1 : Int32) (x2 : Nat) (x3 : Int32), sh st x2 = 11 → x2 < gBIG → K10 st x1 x2 x3 → X θ κ Ph st 10 [(0, .ref (ad θ 0)), (1, .int x1), (2, .ref (ad θ x2)), (3, .int x3)] []) (st : St) (x1 : Int32) (x2 : Nat) (x3 : Int32) (hs_x2 : sh st x2 = 11) (hb_x2 : x2 < gBIG) (h : w_X0_gameTold_b94 Φ K10 st x1 x2 x3) : X θ κ Ph st 94 [(0, .ref (ad θ 0)), (1, .int x1), (2, .ref (ad θ x2)), (3, .int x3)] [] := by
  unfold w_X0_gameTold_b94 at h
  refine X_iinc (v := (x3 + 1)) C (j := 3) dX0_gameTold_94 rfl rfl (lo2 := [(3, _), (0, _), (1, _), (2, _)]) (by decide) rfl ?_
  refine X_goto (tgt := 10) C dX0_gameTold_97 (by decide) ?_
  refine X_sub [1, 2, 3, 0] (lo2 := [(0, _), (1, _), (2, _), (3, _)]) rfl ?_
  exact hK10 st x1 x2 (x3 + 1) hs_x2 hb_x2 h
def w_X0_gameTold_b34 (Φ : St → Nat → Prop) (K10 : St → Int32 → Nat → Int32 → Prop) (st : St) (x1 : Int32) (x2 : Nat) (x3 : Int32) (z0 : Nat) (z1 : Nat) : Prop := w_J11_append_2 st z1 z0 (fun (s21 : St) (r20 : Nat) => w_X0_gameTold_l41 Φ (fun (s59 : St) (x1 : Int32) (x2 : Nat) (x3 : Int32) => w_X0_gameTold_b94 Φ K10 s59 x1 x2 x3) gFU s21 x1 x2 x3 0)
theorem t_X0_gameTold_b34 {θ : Th} {κ : Kx} {Ph : Ph} (hX : LX θ) {d : Nat} (hd : 6 ≤ d) (C : Cx θ κ yX0_gameTold cX0_gameTold 5 (some (Jvm.ClassFile.FieldType.object "java/lang/CharSequence")) [] d) {Φ : St → Nat → Prop} (hn : ∀ st r, r < gBIG → sh st r = 11 → Φ st r → Ph.1 st (some (.ref (ad θ r)))) {K10 : St → Int32 → Nat → Int32 → Prop} (hK10 : ∀ (st : St) (x1 : Int32) (x2 : Nat) (x3 : Int32), sh st x2 = 11 → x2 < gBIG → K10 st x1 x2 x3 → X θ κ Ph st 10 [(0, .ref (ad θ 0)), (1, .int x1), (2, .ref (ad θ x2)), (3, .int x3)] []) (st : St) (x1 : Int32) (x2 : Nat) (x3 : Int32) (z0 : Nat) (z1 : Nat) (hs_x2 : sh st x2 = 11) (hb_x2 : x2 < gBIG) (hs_z0 : sh st z0 = 10) (hs_z1 : sh st z1 = 11) (hb_z1 : z1 < gBIG) (h : w_X0_gameTold_b34 Φ K10 st x1 x2 x3 z0 z1) : X θ κ Ph st 34 [(0, .ref (ad θ 0)), (1, .int x1), (2, .ref (ad θ x2)), (3, .int x3)] [.ref (ad θ z0), .ref (ad θ z1)] := by
  unfold w_X0_gameTold_b34 at h
  refine X_callV (ci := 10) (q := (RJ11, TJ11, 4)) (As := [_]) (rest := []) C rfl hs_z1 q1356 q1357 q1358 q151 q1359 ⟨rfl, nm_J11_append_2⟩ rfl dX0_gameTold_34 (m_J11_append_2 (Cx_l C) hX (d := d - 1) (by omega) st z1 z0 hs_z1 hb_z1 hs_z0 h) (by omega) (by decide) (Nat.le_of_ble_eq_true rfl) (fun s21 w22 hE23 hP24 => ?_) (fun s27 E25 q26 hE23 hP24 => ?_)
  rotate_left
  · exact False.elim hP24
  obtain ⟨r20, rfl, hb28, hs29, h⟩ := hP24
  refine X_tls ?_
  have hs_x2 := Ext_sh hE23 hs_x2 (by decide)
  have hs_z0 := Ext_sh hE23 hs_z0 (by decide)
  have hs_z1 := Ext_sh hE23 hs_z1 (by decide)
  refine X_pop C dX0_gameTold_37 rfl ?_
  refine X_iconst (v := 0) C dX0_gameTold_38 rfl ?_
  refine X_istore C dX0_gameTold_39 (lo2 := [(4, _), (0, _), (1, _), (2, _), (3, _)]) (by decide) rfl ?_
  refine X_sub [1, 2, 3, 4, 0] (lo2 := [(0, _), (1, _), (2, _), (3, _), (4, _)]) rfl ?_
  refine t_X0_gameTold_l41 hX hd C hn ?_ gFU s21 x1 x2 x3 0 hs_x2 hb_x2 h
  · intro s59 x1 x2 x3 hs_x2 hb_x2 h
    exact t_X0_gameTold_b94 hX hd C hn hK10 s59 x1 x2 x3 hs_x2 hb_x2 h
def w_X0_gameTold_l10 (Φ : St → Nat → Prop) (E100 : St → Nat → Prop) : Nat → St → Int32 → Nat → Int32 → Prop
  | 0, _, _, _, _ => False
  | n + 1, st, x1, x2, x3 => (((sI st 2 2) ≤ x3) → E100 st x2) ∧ ((¬ (sI st 2 2) ≤ x3) → ((x3 ≠ 0) → w_X0_gameTold_b34 Φ (w_X0_gameTold_l10 Φ E100 n) st x1 x2 x3 (gBIG + 2 * 19) x2) ∧ ((x3 = 0) → w_X0_gameTold_b34 Φ (w_X0_gameTold_l10 Φ E100 n) st x1 x2 x3 (gBIG + 2 * 0) x2))
theorem t_X0_gameTold_l10 {θ : Th} {κ : Kx} {Ph : Ph} (hX : LX θ) {d : Nat} (hd : 6 ≤ d) (C : Cx θ κ yX0_gameTold cX0_gameTold 5 (some (Jvm.ClassFile.FieldType.object "java/lang/CharSequence")) [] d) {Φ : St → Nat → Prop} (hn : ∀ st r, r < gBIG → sh st r = 11 → Φ st r → Ph.1 st (some (.ref (ad θ r)))) {E100 : St → Nat → Prop} (hE100 : ∀ (st : St) (x2 : Nat), sh st x2 = 11 → x2 < gBIG → E100 st x2 → X θ κ Ph st 100 [(2, .ref (ad θ x2))] []) : ∀ (n : Nat) (st : St) (x1 : Int32) (x2 : Nat) (x3 : Int32), sh st x2 = 11 → x2 < gBIG → w_X0_gameTold_l10 Φ E100 n st x1 x2 x3 → X θ κ Ph st 10 [(0, .ref (ad θ 0)), (1, .int x1), (2, .ref (ad θ x2)), (3, .int x3)] [] := by
  intro n
  induction n with
  | zero => intro st x1 x2 x3 hs_x2 hb_x2 h; exact h.elim
  | succ n hK10 =>
    intro st x1 x2 x3 hs_x2 hb_x2 h
    rw [w_X0_gameTold_l10] at h
    refine X_iload_n C dX0_gameTold_10 rfl 3 rfl ?_
    refine X_aload_n C dX0_gameTold_11 rfl 0 rfl (isRV_r _) ?_
    refine X_getF (ci := 0) (j := 1) (q := (RX0, TX0, 49)) C rfl (by decide) q261 rfl dX0_gameTold_12 (b := 2) (LX_S hX (k := 0) rfl) (LX_F hX (k := 0) (j := 1) rfl) rfl ?_
    refine X_getNS (ci := 1) (j := 2) (q := (RX1, TX1, 10)) C rfl (by decide) q193 rfl dX0_gameTold_15 (LH_0 (LX_H2 hX)) (v := .int (sI st 2 2)) rfl ?_
    refine X_icmp_ge (tgt := 100) C dX0_gameTold_18 (by decide) (fun c16 => ?_) (fun c16 => ?_)
    · have h := h.1 c16
      refine X_sub [2] (lo2 := [(2, _)]) rfl ?_
      exact hE100 st x2 hs_x2 hb_x2 h
    · have h := h.2 c16
      refine X_aload_n C dX0_gameTold_21 rfl 2 rfl (isRV_r _) ?_
      refine X_iload_n C dX0_gameTold_22 rfl 3 rfl ?_
      refine X_if_ne (tgt := 31) C dX0_gameTold_23 (by decide) (fun c17 => ?_) (fun c17 => ?_)
      · have h := h.1 c17
        refine X_ldcws (tx := ";") (i := 19) C (by decide +kernel) dX0_gameTold_31 ?_
        refine X_con (fun hc18 => ?_)
        have hs19 : sh st (gBIG + 2 * 19) = 10 := con_str hc18 (by decide)
        exact t_X0_gameTold_b34 hX hd C hn hK10 st x1 x2 x3 (gBIG + 2 * 19) x2 hs_x2 hb_x2 hs19 hs_x2 hb_x2 h
      · have h := h.2 c17
        refine X_ldcs (tx := "") (i := 0) C (by decide +kernel) dX0_gameTold_26 ?_
        refine X_con (fun hc60 => ?_)
        have hs61 : sh st (gBIG + 2 * 0) = 10 := con_str hc60 (by decide)
        refine X_goto (tgt := 34) C dX0_gameTold_28 (by decide) ?_
        exact t_X0_gameTold_b34 hX hd C hn hK10 st x1 x2 x3 (gBIG + 2 * 0) x2 hs_x2 hb_x2 hs61 hs_x2 hb_x2 h
def w_X0_gameTold_b100 (Φ : St → Nat → Prop) (st : St) (x2 : Nat) : Prop := Φ st x2
theorem t_X0_gameTold_b100 {θ : Th} {κ : Kx} {Ph : Ph} (hX : LX θ) {d : Nat} (hd : 6 ≤ d) (C : Cx θ κ yX0_gameTold cX0_gameTold 5 (some (Jvm.ClassFile.FieldType.object "java/lang/CharSequence")) [] d) {Φ : St → Nat → Prop} (hn : ∀ st r, r < gBIG → sh st r = 11 → Φ st r → Ph.1 st (some (.ref (ad θ r)))) (st : St) (x2 : Nat) (hs_x2 : sh st x2 = 11) (hb_x2 : x2 < gBIG) (h : w_X0_gameTold_b100 Φ st x2) : X θ κ Ph st 100 [(2, .ref (ad θ x2))] [] := by
  unfold w_X0_gameTold_b100 at h
  refine X_aload_n C dX0_gameTold_100 rfl 0 rfl (isRV_r _) ?_
  exact X_aret C rfl (Or.inl ⟨_, rfl⟩) (isRV_r _) dX0_gameTold_101 (hn st _ hb_x2 hs_x2 h)
def w_X0_gameTold (st : St) (p1 : Int32) (Φ : St → Nat → Prop) : Prop := sN st + 1 ≤ gCAP ∧ sS st + 4 ≤ gCAPS ∧ ∀ s3, s3 = mk st 11 4 → w_J11_init s3 (sN st) (fun (s9 : St) => w_X0_gameTold_l10 Φ (fun (s62 : St) (x2 : Nat) => w_X0_gameTold_b100 Φ s62 x2) gFU s9 p1 (sN st) 0)
theorem e_X0_gameTold : plainFor yX0_gameTold = true := plainFor_of_name (by decide +kernel)
theorem m_X0_gameTold {θ : Th} {l : Launch} (hl0 : l.stackTraces = false) (hX : LX θ) {d : Nat} (hd : 6 ≤ d) (st : St) (p1 : Int32) {Φ : St → Nat → Prop} (h : w_X0_gameTold st p1 Φ) : Ct θ l yX0_gameTold (ws_ yX0_gameTold cX0_gameTold 5 (some (Jvm.ClassFile.FieldType.object "java/lang/CharSequence"))) d [.ref (ad θ 0), .int p1] st (pN θ 11 Φ, noX) := by
  refine Ct_entry hl0 e_X0_gameTold (Nat.le_of_ble_eq_true rfl) (fun κ hκ _ C => ?_)
  have hn : ∀ st r, r < gBIG → sh st r = 11 → Φ st r → ((pN θ 11 Φ, noX) : Ph).1 st (some (.ref (ad θ r))) := fun st r q1 q2 q => ⟨r, rfl, q1, q2, q⟩
  change X _ _ _ _ _ [(0, .ref (ad θ 0)), (1, .int p1)] _
  unfold w_X0_gameTold at h
  have g1 := h.1
  have h := h.2
  have g2 := h.1
  have h := h.2
  refine X_new (ci := 10) (q := (RJ11, TJ11, 4)) C rfl q962 q963 q151 g1 g2 dX0_gameTold_0 (fun hE5 => ?_)
  refine X_nm (fun s3 e4 => ?_)
  have h := h s3 e4
  rw [← e4] at hE5
  have hs6 : sh s3 (sN st) = 11 := by rw [e4]; exact sh_mk
  have hb7 := nb_N g1
  refine X_dup C dX0_gameTold_3 rfl ?_
  refine X_callI (As := []) (rest := [_]) C q964 q965 q151 q966 rfl nm_J11_init rfl dX0_gameTold_4 (m_J11_init (Cx_l C) hX (d := d - 1) (by omega) s3 (sN st) hs6 hb7 h) (by omega) (by decide) (Nat.le_of_ble_eq_true rfl) (fun s9 w10 hE11 hP12 => ?_) (fun s15 E13 q14 hE11 hP12 => ?_)
  rotate_left
  · exact False.elim hP12
  obtain ⟨rfl, h⟩ := hP12
  refine X_tln ?_
  have hs6 := Ext_sh hE11 hs6 (by decide)
  refine X_astore_n C dX0_gameTold_7 rfl (isRV_r _) (lo2 := [(2, _), (0, _), (1, _)]) (by decide) rfl ?_
  refine X_iconst (v := 0) C dX0_gameTold_8 rfl ?_
  refine X_istore_n C dX0_gameTold_9 rfl (lo2 := [(3, _), (2, _), (0, _), (1, _)]) (by decide) rfl ?_
  refine X_sub [2, 3, 1, 0] (lo2 := [(0, _), (1, _), (2, _), (3, _)]) rfl ?_
  refine t_X0_gameTold_l10 hX hd C hn ?_ gFU s9 p1 (sN st) 0 hs6 hb7 h
  · intro s62 x2 hs_x2 hb_x2 h
    exact t_X0_gameTold_b100 hX hd C hn s62 x2 hs_x2 hb_x2 h

theorem nm_X0_bestTold : yX0_bestTold.cls ≠ "java/lang/invoke/MethodHandle" ∧ yX0_bestTold.cls ≠ "java/lang/invoke/VarHandle" ∧ (parseMethodDescriptor yX0_bestTold.desc).map (fun d => d.parameters.length) = some 1 := by decide +kernel
def w_X0_bestTold_b51 (Φ : St → Nat → Prop) (Φw : St → Nat → Prop) (Φa : St → Prop) (K17 : St → Nat → Int32 → Prop) (st : St) (x3 : Nat) (x4 : Int32) (z0 : Nat) (z1 : Nat) (z2 : Nat) : Prop := w_X8_behindv3 st z1 z0 (fun (s34 : St) (r33 : Nat) => w_J11_append_2 s34 z2 r33 (fun (s44 : St) (r43 : Nat) => w_J11_append s44 r43 42 (fun (s54 : St) (r53 : Nat) => vp_in x4 3 ∧ w_J11_append_3 s54 r53 (sI s54 137 x4.toNatClampNeg) (fun (s65 : St) (r64 : Nat) => K17 s65 x3 (x4 + 1)))))
theorem t_X0_bestTold_b51 {θ : Th} {κ : Kx} {Ph : Ph} (hX : LX θ) {d : Nat} (hd : 9 ≤ d) (C : Cx θ κ yX0_bestTold cX0_bestTold 6 (some (Jvm.ClassFile.FieldType.object "java/lang/CharSequence")) [] d) {Φ : St → Nat → Prop} {Φw : St → Nat → Prop} {Φa : St → Prop} (hn : ∀ st r, r < gBIG → sh st r = 11 → Φ st r → Ph.1 st (some (.ref (ad θ r)))) (hw : ∀ st a, a < gBIG → sh st a = 6 → Φw st a → Ph.2 st "SecretsWorth$Wrong" (ad θ a)) (ha : ∀ st q, Φa st → Ph.2 st "java/lang/ArithmeticException" q) {K17 : St → Nat → Int32 → Prop} (hK17 : ∀ (st : St) (x3 : Nat) (x4 : Int32), sh st x3 = 11 → x3 < gBIG → K17 st x3 x4 → X θ κ Ph st 17 [(0, .ref (ad θ 0)), (3, .ref (ad θ x3)), (4, .int x4)] []) (st : St) (x3 : Nat) (x4 : Int32) (z0 : Nat) (z1 : Nat) (z2 : Nat) (hs_x3 : sh st x3 = 11) (hb_x3 : x3 < gBIG) (hs_z0 : sh st z0 = 10) (hs_z1 : sh st z1 = 3) (hb_z1 : z1 < gBIG) (hs_z2 : sh st z2 = 11) (hb_z2 : z2 < gBIG) (h : w_X0_bestTold_b51 Φ Φw Φa K17 st x3 x4 z0 z1 z2) : X θ κ Ph st 51 [(0, .ref (ad θ 0)), (3, .ref (ad θ x3)), (4, .int x4)] [.ref (ad θ z0), .ref (ad θ z1), .ref (ad θ z2)] := by
  unfold w_X0_bestTold_b51 at h
  refine X_callFD (ci := 2) (q := (RX2, TX2, 2)) (As := [_]) (rest := [_]) C rfl hs_z1 (by simp [gIF]; try decide) (by simp [gDF]; try decide) q1430 q1435 q159 q1437 nmF_0 rfl dX0_bestTold_51 (m_X8_behindv3 (Cx_l C) hX (d := d - 1) (by omega) st z1 z0 hs_z1 hb_z1 hs_z0 h) (by omega) (by decide) (Nat.le_of_ble_eq_true rfl) (fun s34 w35 hE36 hP37 => ?_) (fun s40 E38 q39 hE36 hP37 => ?_)
  rotate_left
  · exact False.elim hP37
  obtain ⟨r33, rfl, hb41, hs42, h⟩ := hP37
  refine X_tls ?_
  have hs_x3 := Ext_sh hE36 hs_x3 (by decide)
  have hs_z0 := Ext_sh hE36 hs_z0 (by decide)
  have hs_z1 := Ext_sh hE36 hs_z1 (by decide)
  have hs_z2 := Ext_sh hE36 hs_z2 (by decide)
  refine X_callV (ci := 10) (q := (RJ11, TJ11, 4)) (As := [_]) (rest := []) C rfl hs_z2 q1356 q1357 q1358 q151 q1359 ⟨rfl, nm_J11_append_2⟩ rfl dX0_bestTold_56 (m_J11_append_2 (Cx_l C) hX (d := d - 1) (by omega) s34 z2 r33 hs_z2 hb_z2 hs42 h) (by omega) (by decide) (Nat.le_of_ble_eq_true rfl) (fun s44 w45 hE46 hP47 => ?_) (fun s50 E48 q49 hE46 hP47 => ?_)
  rotate_left
  · exact False.elim hP47
  obtain ⟨r43, rfl, hb51, hs52, h⟩ := hP47
  refine X_tls ?_
  have hs_x3 := Ext_sh hE46 hs_x3 (by decide)
  have hs_z0 := Ext_sh hE46 hs_z0 (by decide)
  have hs_z1 := Ext_sh hE46 hs_z1 (by decide)
  have hs_z2 := Ext_sh hE46 hs_z2 (by decide)
  have hs42 := Ext_sh hE46 hs42 (by decide)
  refine X_bipush (v := 42) C dX0_bestTold_59 rfl ?_
  refine X_callV (ci := 10) (q := (RJ11, TJ11, 4)) (As := [_]) (rest := []) C rfl hs52 q993 q994 q995 q151 q996 ⟨rfl, nm_J11_append⟩ rfl dX0_bestTold_61 (m_J11_append (Cx_l C) hX (d := d - 1) (by omega) s44 r43 42 hs52 hb51 h) (by omega) (by decide) (Nat.le_of_ble_eq_true rfl) (fun s54 w55 hE56 hP57 => ?_) (fun s60 E58 q59 hE56 hP57 => ?_)
  rotate_left
  · exact False.elim hP57
  obtain ⟨r53, rfl, hb61, hs62, h⟩ := hP57
  refine X_tls ?_
  have hs_x3 := Ext_sh hE56 hs_x3 (by decide)
  have hs_z0 := Ext_sh hE56 hs_z0 (by decide)
  have hs_z1 := Ext_sh hE56 hs_z1 (by decide)
  have hs_z2 := Ext_sh hE56 hs_z2 (by decide)
  have hs42 := Ext_sh hE56 hs42 (by decide)
  have hs52 := Ext_sh hE56 hs52 (by decide)
  refine X_aload_n C dX0_bestTold_64 rfl 0 rfl (isRV_r _) ?_
  refine X_getF (ci := 0) (j := 22) (q := (RX0, TX0, 49)) C rfl (by decide) q282 rfl dX0_bestTold_65 (b := 137) (LX_S hX (k := 0) rfl) (LX_F hX (k := 0) (j := 22) rfl) rfl ?_
  refine X_iload C dX0_bestTold_68 2 rfl ?_
  have g63 := h.1
  have h := h.2
  refine X_ialdS C (LX_S hX (k := 137) rfl) (LX_L hX (k := 137) rfl) g63 rfl dX0_bestTold_70 ?_
  refine X_callV (ci := 10) (q := (RJ11, TJ11, 4)) (As := [_]) (rest := []) C rfl hs62 q1402 q1403 q1404 q151 q1405 ⟨rfl, nm_J11_append_3⟩ rfl dX0_bestTold_71 (m_J11_append_3 (Cx_l C) hX (d := d - 1) (by omega) s54 r53 (sI s54 137 x4.toNatClampNeg) hs62 hb61 h) (by omega) (by decide) (Nat.le_of_ble_eq_true rfl) (fun s65 w66 hE67 hP68 => ?_) (fun s71 E69 q70 hE67 hP68 => ?_)
  rotate_left
  · exact False.elim hP68
  obtain ⟨r64, rfl, hb72, hs73, h⟩ := hP68
  refine X_tls ?_
  have hs_x3 := Ext_sh hE67 hs_x3 (by decide)
  have hs_z0 := Ext_sh hE67 hs_z0 (by decide)
  have hs_z1 := Ext_sh hE67 hs_z1 (by decide)
  have hs_z2 := Ext_sh hE67 hs_z2 (by decide)
  have hs42 := Ext_sh hE67 hs42 (by decide)
  have hs52 := Ext_sh hE67 hs52 (by decide)
  have hs62 := Ext_sh hE67 hs62 (by decide)
  refine X_pop C dX0_bestTold_74 rfl ?_
  refine X_iinc (v := (x4 + 1)) C (j := 2) dX0_bestTold_75 rfl rfl (lo2 := [(4, _), (0, _), (3, _)]) (by decide) rfl ?_
  refine X_goto (tgt := 17) C dX0_bestTold_78 (by decide) ?_
  refine X_sub [1, 2, 0] (lo2 := [(0, _), (3, _), (4, _)]) rfl ?_
  exact hK17 s65 x3 (x4 + 1) hs_x3 hb_x3 h
def w_X0_bestTold_l17 (Φ : St → Nat → Prop) (Φw : St → Nat → Prop) (Φa : St → Prop) (E81 : St → Nat → Prop) : Nat → St → Nat → Int32 → Prop
  | 0, _, _, _ => False
  | n + 1, st, x3, x4 => (((sI st 0 23) ≤ x4) → E81 st x3) ∧ ((¬ (sI st 0 23) ≤ x4) → vp_in x4 3 ∧ ((x4 ≠ 0) → w_X0_bestTold_b51 Φ Φw Φa (w_X0_bestTold_l17 Φ Φw Φa E81 n) st x3 x4 (gBIG + 2 * 20) (165 + 2 * x4.toNatClampNeg) x3) ∧ ((x4 = 0) → w_X0_bestTold_b51 Φ Φw Φa (w_X0_bestTold_l17 Φ Φw Φa E81 n) st x3 x4 (gBIG + 2 * 0) (165 + 2 * x4.toNatClampNeg) x3))
theorem t_X0_bestTold_l17 {θ : Th} {κ : Kx} {Ph : Ph} (hX : LX θ) {d : Nat} (hd : 9 ≤ d) (C : Cx θ κ yX0_bestTold cX0_bestTold 6 (some (Jvm.ClassFile.FieldType.object "java/lang/CharSequence")) [] d) {Φ : St → Nat → Prop} {Φw : St → Nat → Prop} {Φa : St → Prop} (hn : ∀ st r, r < gBIG → sh st r = 11 → Φ st r → Ph.1 st (some (.ref (ad θ r)))) (hw : ∀ st a, a < gBIG → sh st a = 6 → Φw st a → Ph.2 st "SecretsWorth$Wrong" (ad θ a)) (ha : ∀ st q, Φa st → Ph.2 st "java/lang/ArithmeticException" q) {E81 : St → Nat → Prop} (hE81 : ∀ (st : St) (x3 : Nat), sh st x3 = 11 → x3 < gBIG → E81 st x3 → X θ κ Ph st 81 [(3, .ref (ad θ x3))] []) : ∀ (n : Nat) (st : St) (x3 : Nat) (x4 : Int32), sh st x3 = 11 → x3 < gBIG → w_X0_bestTold_l17 Φ Φw Φa E81 n st x3 x4 → X θ κ Ph st 17 [(0, .ref (ad θ 0)), (3, .ref (ad θ x3)), (4, .int x4)] [] := by
  intro n
  induction n with
  | zero => intro st x3 x4 hs_x3 hb_x3 h; exact h.elim
  | succ n hK17 =>
    intro st x3 x4 hs_x3 hb_x3 h
    rw [w_X0_bestTold_l17] at h
    refine X_iload C dX0_bestTold_17 2 rfl ?_
    refine X_aload_n C dX0_bestTold_19 rfl 0 rfl (isRV_r _) ?_
    refine X_getS (ci := 0) (j := 23) (q := (RX0, TX0, 49)) C rfl (by decide) q283 rfl dX0_bestTold_20 (LX_S hX (k := 0) rfl) (v := .int (sI st 0 23)) rfl ?_
    refine X_icmp_ge (tgt := 81) C dX0_bestTold_23 (by decide) (fun c26 => ?_) (fun c26 => ?_)
    · have h := h.1 c26
      refine X_sub [1] (lo2 := [(3, _)]) rfl ?_
      exact hE81 st x3 hs_x3 hb_x3 h
    · have h := h.2 c26
      refine X_aload_n C dX0_bestTold_26 rfl 0 rfl (isRV_r _) ?_
      refine X_getF (ci := 0) (j := 20) (q := (RX0, TX0, 49)) C rfl (by decide) q280 rfl dX0_bestTold_27 (b := 135) (LX_S hX (k := 0) rfl) (LX_F hX (k := 0) (j := 20) rfl) rfl ?_
      refine X_iload C dX0_bestTold_30 2 rfl ?_
      have g27 := h.1
      have h := h.2
      refine X_aaldF C 9 rfl (LX_S hX (k := 135) rfl) (by decide) rfl (LX_L hX (k := 135) rfl) g27 rfl (b := (165 + 2 * x4.toNatClampNeg)) (LXf_bestW hX (i := x4.toNatClampNeg) (in_lt g27)).2 dX0_bestTold_32 rfl ?_
      refine X_astore C dX0_bestTold_33 (isRV_r _) (lo2 := [(5, _), (0, _), (3, _), (4, _)]) (by decide) rfl ?_
      refine X_aload_n C dX0_bestTold_35 rfl 2 rfl (isRV_r _) ?_
      refine X_aload C dX0_bestTold_36 0 rfl (isRV_r _) ?_
      refine X_iload C dX0_bestTold_38 3 rfl ?_
      refine X_if_ne (tgt := 48) C dX0_bestTold_40 (by decide) (fun c28 => ?_) (fun c28 => ?_)
      · have h := h.1 c28
        refine X_ldcws (tx := "+") (i := 20) C (by decide +kernel) dX0_bestTold_48 ?_
        refine X_con (fun hc29 => ?_)
        have hs30 : sh st (gBIG + 2 * 20) = 10 := con_str hc29 (by decide)
        refine X_sh (LXf_bestW hX (i := x4.toNatClampNeg) (in_lt g27)).1 (by decide) (fun hs31 hb32 => ?_)
        refine X_sub [1, 2, 3] (lo2 := [(0, _), (3, _), (4, _)]) rfl ?_
        exact t_X0_bestTold_b51 hX hd C hn hw ha hK17 st x3 x4 (gBIG + 2 * 20) (165 + 2 * x4.toNatClampNeg) x3 hs_x3 hb_x3 hs30 hs31 hb32 hs_x3 hb_x3 h
      · have h := h.2 c28
        refine X_ldcs (tx := "") (i := 0) C (by decide +kernel) dX0_bestTold_43 ?_
        refine X_con (fun hc74 => ?_)
        have hs75 : sh st (gBIG + 2 * 0) = 10 := con_str hc74 (by decide)
        refine X_goto (tgt := 51) C dX0_bestTold_45 (by decide) ?_
        refine X_sh (LXf_bestW hX (i := x4.toNatClampNeg) (in_lt g27)).1 (by decide) (fun hs76 hb77 => ?_)
        refine X_sub [1, 2, 3] (lo2 := [(0, _), (3, _), (4, _)]) rfl ?_
        exact t_X0_bestTold_b51 hX hd C hn hw ha hK17 st x3 x4 (gBIG + 2 * 0) (165 + 2 * x4.toNatClampNeg) x3 hs_x3 hb_x3 hs75 hs76 hb77 hs_x3 hb_x3 h
def w_X0_bestTold_b81 (Φ : St → Nat → Prop) (Φw : St → Nat → Prop) (Φa : St → Prop) (st : St) (x3 : Nat) : Prop := Φ st x3
theorem t_X0_bestTold_b81 {θ : Th} {κ : Kx} {Ph : Ph} (hX : LX θ) {d : Nat} (hd : 9 ≤ d) (C : Cx θ κ yX0_bestTold cX0_bestTold 6 (some (Jvm.ClassFile.FieldType.object "java/lang/CharSequence")) [] d) {Φ : St → Nat → Prop} {Φw : St → Nat → Prop} {Φa : St → Prop} (hn : ∀ st r, r < gBIG → sh st r = 11 → Φ st r → Ph.1 st (some (.ref (ad θ r)))) (hw : ∀ st a, a < gBIG → sh st a = 6 → Φw st a → Ph.2 st "SecretsWorth$Wrong" (ad θ a)) (ha : ∀ st q, Φa st → Ph.2 st "java/lang/ArithmeticException" q) (st : St) (x3 : Nat) (hs_x3 : sh st x3 = 11) (hb_x3 : x3 < gBIG) (h : w_X0_bestTold_b81 Φ Φw Φa st x3) : X θ κ Ph st 81 [(3, .ref (ad θ x3))] [] := by
  unfold w_X0_bestTold_b81 at h
  refine X_aload_n C dX0_bestTold_81 rfl 0 rfl (isRV_r _) ?_
  exact X_aret C rfl (Or.inl ⟨_, rfl⟩) (isRV_r _) dX0_bestTold_82 (hn st _ hb_x3 hs_x3 h)
def w_X0_bestTold (st : St) (p1 : Int32) (Φ : St → Nat → Prop) (Φw : St → Nat → Prop) (Φa : St → Prop) : Prop := w_X0_hullNow st p1 (fun (s2 : St) (r1 : Nat) => sN s2 + 1 ≤ gCAP ∧ sS s2 + 4 ≤ gCAPS ∧ ∀ s13, s13 = mk s2 11 4 → w_J11_init s13 (sN s2) (fun (s19 : St) => w_X0_bestTold_l17 Φ Φw Φa (fun (s78 : St) (x3 : Nat) => w_X0_bestTold_b81 Φ Φw Φa s78 x3) gFU s19 (sN s2) 0)) Φw Φa
theorem e_X0_bestTold : plainFor yX0_bestTold = true := plainFor_of_name (by decide +kernel)
theorem m_X0_bestTold {θ : Th} {l : Launch} (hl0 : l.stackTraces = false) (hX : LX θ) {d : Nat} (hd : 9 ≤ d) (st : St) (p1 : Int32) {Φ : St → Nat → Prop} {Φw : St → Nat → Prop} {Φa : St → Prop} (h : w_X0_bestTold st p1 Φ Φw Φa) : Ct θ l yX0_bestTold (ws_ yX0_bestTold cX0_bestTold 6 (some (Jvm.ClassFile.FieldType.object "java/lang/CharSequence"))) d [.ref (ad θ 0), .int p1] st (pN θ 11 Φ, (exOr (exW θ Φw) (exA Φa))) := by
  refine Ct_entry hl0 e_X0_bestTold (Nat.le_of_ble_eq_true rfl) (fun κ hκ _ C => ?_)
  have hn : ∀ st r, r < gBIG → sh st r = 11 → Φ st r → ((pN θ 11 Φ, (exOr (exW θ Φw) (exA Φa))) : Ph).1 st (some (.ref (ad θ r))) := fun st r q1 q2 q => ⟨r, rfl, q1, q2, q⟩
  have hw : ∀ st a, a < gBIG → sh st a = 6 → Φw st a → ((pN θ 11 Φ, (exOr (exW θ Φw) (exA Φa))) : Ph).2 st "SecretsWorth$Wrong" (ad θ a) := fun st a q1 q2 q => Or.inl ⟨rfl, a, rfl, q1, q2, q⟩
  have ha : ∀ st q, Φa st → ((pN θ 11 Φ, (exOr (exW θ Φw) (exA Φa))) : Ph).2 st "java/lang/ArithmeticException" q := fun st q2 q => Or.inr (⟨rfl, q⟩)
  change X _ _ _ _ _ [(0, .ref (ad θ 0)), (1, .int p1)] _
  unfold w_X0_bestTold at h
  refine X_aload_n C dX0_bestTold_0 rfl 0 rfl (isRV_r _) ?_
  refine X_iload_n C dX0_bestTold_1 rfl 1 rfl ?_
  refine X_callVS (ci := 0) (q := (RX0, TX0, 49)) (As := [_]) (rest := []) C rfl (LX_S hX (k := 0) rfl) q829 q831 qs24 q132 q832 ⟨rfl, nm_X0_hullNow⟩ rfl dX0_bestTold_2 (m_X0_hullNow (Cx_l C) hX (d := d - 1) (by omega) st p1 h) (by omega) (by decide) (Nat.le_of_ble_eq_true rfl) (fun s2 w3 hE4 hP5 => ?_) (fun s8 E6 q7 hE4 hP5 => ?_)
  rotate_left
  · rcases hP5 with ⟨rfl, a_, rfl, hb_, hs_, h⟩ | ⟨rfl, h⟩
    · exact XT_out C rfl (hw s8 a_ hb_ hs_ h)
    · exact XT_out C rfl (ha s8 q7 h)
  obtain ⟨r1, rfl, hb9, hs10, h⟩ := hP5
  refine X_tls ?_
  refine X_astore_n C dX0_bestTold_5 rfl (isRV_r _) (lo2 := [(2, _), (0, _), (1, _)]) (by decide) rfl ?_
  have g11 := h.1
  have h := h.2
  have g12 := h.1
  have h := h.2
  refine X_new (ci := 10) (q := (RJ11, TJ11, 4)) C rfl q962 q963 q151 g11 g12 dX0_bestTold_6 (fun hE15 => ?_)
  refine X_nm (fun s13 e14 => ?_)
  have h := h s13 e14
  rw [← e14] at hE15
  have hs10 := Ext_sh hE15 hs10 (by decide)
  have hs16 : sh s13 (sN s2) = 11 := by rw [e14]; exact sh_mk
  have hb17 := nb_N g11
  refine X_dup C dX0_bestTold_9 rfl ?_
  refine X_callI (As := []) (rest := [_]) C q964 q965 q151 q966 rfl nm_J11_init rfl dX0_bestTold_10 (m_J11_init (Cx_l C) hX (d := d - 1) (by omega) s13 (sN s2) hs16 hb17 h) (by omega) (by decide) (Nat.le_of_ble_eq_true rfl) (fun s19 w20 hE21 hP22 => ?_) (fun s25 E23 q24 hE21 hP22 => ?_)
  rotate_left
  · exact False.elim hP22
  obtain ⟨rfl, h⟩ := hP22
  refine X_tln ?_
  have hs10 := Ext_sh hE21 hs10 (by decide)
  have hs16 := Ext_sh hE21 hs16 (by decide)
  refine X_astore_n C dX0_bestTold_13 rfl (isRV_r _) (lo2 := [(3, _), (2, _), (0, _), (1, _)]) (by decide) rfl ?_
  refine X_iconst (v := 0) C dX0_bestTold_14 rfl ?_
  refine X_istore C dX0_bestTold_15 (lo2 := [(4, _), (3, _), (2, _), (0, _), (1, _)]) (by decide) rfl ?_
  refine X_sub [3, 1, 0] (lo2 := [(0, _), (3, _), (4, _)]) rfl ?_
  refine t_X0_bestTold_l17 hX hd C hn hw ha ?_ gFU s19 (sN s2) 0 hs16 hb17 h
  · intro s78 x3 hs_x3 hb_x3 h
    exact t_X0_bestTold_b81 hX hd C hn hw ha s78 x3 hs_x3 hb_x3 h

theorem nm_X0_lineOf : yX0_lineOf.cls ≠ "java/lang/invoke/MethodHandle" ∧ yX0_lineOf.cls ≠ "java/lang/invoke/VarHandle" ∧ (parseMethodDescriptor yX0_lineOf.desc).map (fun d => d.parameters.length) = some 2 := by decide +kernel
def w_X0_lineOf (st : St) (p1 : Int32) (p2 : Int32) (Φ : St → Option Nat → Prop) (Φw : St → Nat → Prop) (Φa : St → Prop) : Prop := (p1 = 0 → w_X0_pointTold st p2 (fun (s2 : St) (r1 : Nat) => Φ s2 (some r1)) Φw Φa) ∧ (p1 = 1 → w_X0_gameTold st p2 (fun (s13 : St) (r12 : Nat) => Φ s13 (some r12))) ∧ (p1 = 2 → ∃ r23, (sR st 2 7) = some r23 ∧ r23 < gBIG ∧ sh st r23 = 8 ∧ (w_X7_told_f 8) st r23 (fun (s28 : St) (r27 : Nat) => Φ s28 (some r27))) ∧ (p1.toInt < 0 ∨ 2 < p1.toInt → w_X0_bestTold st p2 (fun (s39 : St) (r38 : Nat) => Φ s39 (some r38)) Φw Φa)
theorem e_X0_lineOf : plainFor yX0_lineOf = true := plainFor_of_name (by decide +kernel)
theorem m_X0_lineOf {θ : Th} {l : Launch} (hl0 : l.stackTraces = false) (hX : LX θ) {d : Nat} (hd : 25 ≤ d) (st : St) (p1 : Int32) (p2 : Int32) {Φ : St → Option Nat → Prop} {Φw : St → Nat → Prop} {Φa : St → Prop} (h : w_X0_lineOf st p1 p2 Φ Φw Φa) : Ct θ l yX0_lineOf (ws_ yX0_lineOf cX0_lineOf 3 (some (Jvm.ClassFile.FieldType.object "java/lang/CharSequence"))) d [.ref (ad θ 0), .int p1, .int p2] st (pO θ Φ, (exOr (exW θ Φw) (exA Φa))) := by
  refine Ct_entry hl0 e_X0_lineOf (Nat.le_of_ble_eq_true rfl) (fun κ hκ _ C => ?_)
  have hn : ∀ st r, Φ st r → ((pO θ Φ, (exOr (exW θ Φw) (exA Φa))) : Ph).1 st (some (rv θ r)) := fun st r q => ⟨r, rfl, q⟩
  have hw : ∀ st a, a < gBIG → sh st a = 6 → Φw st a → ((pO θ Φ, (exOr (exW θ Φw) (exA Φa))) : Ph).2 st "SecretsWorth$Wrong" (ad θ a) := fun st a q1 q2 q => Or.inl ⟨rfl, a, rfl, q1, q2, q⟩
  have ha : ∀ st q, Φa st → ((pO θ Φ, (exOr (exW θ Φw) (exA Φa))) : Ph).2 st "java/lang/ArithmeticException" q := fun st q2 q => Or.inr (⟨rfl, q⟩)
  change X _ _ _ _ _ [(0, .ref (ad θ 0)), (1, .int p1), (2, .int p2)] _
  unfold w_X0_lineOf at h
  refine X_iload_n C dX0_lineOf_0 rfl 1 rfl ?_
  by_cases c11 : p1 = 0
  · have h := h.1 c11
    refine X_tableIn (tgt := 28) C dX0_lineOf_1 (by rw [c11]; decide) (by rw [c11]; decide) (off := 27) (by rw [c11]; rfl) (by decide) ?_
    refine X_aload_n C dX0_lineOf_28 rfl 0 rfl (isRV_r _) ?_
    refine X_iload_n C dX0_lineOf_29 rfl 2 rfl ?_
    refine X_callVS (ci := 0) (q := (RX0, TX0, 49)) (As := [_]) (rest := []) C rfl (LX_S hX (k := 0) rfl) q1351 q1353 qs55 q132 q1354 ⟨rfl, nm_X0_pointTold⟩ rfl dX0_lineOf_30 (m_X0_pointTold (Cx_l C) hX (d := d - 1) (by omega) st p2 h) (by omega) (by decide) (Nat.le_of_ble_eq_true rfl) (fun s2 w3 hE4 hP5 => ?_) (fun s8 E6 q7 hE4 hP5 => ?_)
    rotate_left
    · rcases hP5 with ⟨rfl, a_, rfl, hb_, hs_, h⟩ | ⟨rfl, h⟩
      · exact XT_out C rfl (hw s8 a_ hb_ hs_ h)
      · exact XT_out C rfl (ha s8 q7 h)
    obtain ⟨r1, rfl, hb9, hs10, h⟩ := hP5
    refine X_tls ?_
    refine X_goto (tgt := 62) C dX0_lineOf_33 (by decide) ?_
    exact X_aret (v := rv θ (some r1)) C rfl (Or.inl ⟨_, rfl⟩) (isRV_v _ _) dX0_lineOf_62 (hn s2 _ h)
  have h := h.2
  by_cases c22 : p1 = 1
  · have h := h.1 c22
    refine X_tableIn (tgt := 36) C dX0_lineOf_1 (by rw [c22]; decide) (by rw [c22]; decide) (off := 35) (by rw [c22]; rfl) (by decide) ?_
    refine X_aload_n C dX0_lineOf_36 rfl 0 rfl (isRV_r _) ?_
    refine X_iload_n C dX0_lineOf_37 rfl 2 rfl ?_
    refine X_callVS (ci := 0) (q := (RX0, TX0, 49)) (As := [_]) (rest := []) C rfl (LX_S hX (k := 0) rfl) q1580 q1582 qs56 q132 q1583 ⟨rfl, nm_X0_gameTold⟩ rfl dX0_lineOf_38 (m_X0_gameTold (Cx_l C) hX (d := d - 1) (by omega) st p2 h) (by omega) (by decide) (Nat.le_of_ble_eq_true rfl) (fun s13 w14 hE15 hP16 => ?_) (fun s19 E17 q18 hE15 hP16 => ?_)
    rotate_left
    · exact False.elim hP16
    obtain ⟨r12, rfl, hb20, hs21, h⟩ := hP16
    refine X_tls ?_
    refine X_goto (tgt := 62) C dX0_lineOf_41 (by decide) ?_
    exact X_aret (v := rv θ (some r12)) C rfl (Or.inl ⟨_, rfl⟩) (isRV_v _ _) dX0_lineOf_62 (hn s13 _ h)
  have h := h.2
  by_cases c37 : p1 = 2
  · have h := h.1 c37
    refine X_tableIn (tgt := 44) C dX0_lineOf_1 (by rw [c37]; decide) (by rw [c37]; decide) (off := 43) (by rw [c37]; rfl) (by decide) ?_
    refine X_aload_n C dX0_lineOf_44 rfl 0 rfl (isRV_r _) ?_
    refine X_getF (ci := 0) (j := 1) (q := (RX0, TX0, 49)) C rfl (by decide) q261 rfl dX0_lineOf_45 (b := 2) (LX_S hX (k := 0) rfl) (LX_F hX (k := 0) (j := 1) rfl) rfl ?_
    refine X_getNS (ci := 1) (j := 7) (q := (RX1, TX1, 10)) C rfl (by decide) q203 rfl dX0_lineOf_48 (LH_0 (LX_H2 hX)) (v := rv θ (sR st 2 7)) rfl ?_
    obtain ⟨r23, q24, hb26, hs25, h⟩ := h
    rw [q24]
    refine X_tor ?_
    refine X_callV (ci := 7) (q := (RX7, TX7, 4)) (As := []) (rest := []) C rfl hs25 q1585 q1447 q2439 q158 q1449 ⟨rfl, nm_X7_told⟩ rfl dX0_lineOf_51 (m_X7_told_f (Cx_l C) hX 8 (d := d - 1) (by omega) st r23 hs25 hb26 h) (by omega) (by decide) (Nat.le_of_ble_eq_true rfl) (fun s28 w29 hE30 hP31 => ?_) (fun s34 E32 q33 hE30 hP31 => ?_)
    rotate_left
    · exact False.elim hP31
    obtain ⟨r27, rfl, hb35, hs36, h⟩ := hP31
    refine X_tls ?_
    have hs25 := Ext_sh hE30 hs25 (by decide)
    refine X_goto (tgt := 62) C dX0_lineOf_54 (by decide) ?_
    exact X_aret (v := rv θ (some r27)) C rfl (Or.inl ⟨_, rfl⟩) (isRV_v _ _) dX0_lineOf_62 (hn s28 _ h)
  have h := h.2
  have c48 : p1.toInt < 0 ∨ 2 < p1.toInt := by
    have qc11 := ne_toInt c11
    have qc22 := ne_toInt c22
    have qc37 := ne_toInt c37
    simp only [Int32.reduceToInt] at qc11 qc22 qc37
    omega
  refine X_tableOut (tgt := 57) C dX0_lineOf_1 c48 (by decide) ?_
  have h := h c48
  refine X_aload_n C dX0_lineOf_57 rfl 0 rfl (isRV_r _) ?_
  refine X_iload_n C dX0_lineOf_58 rfl 2 rfl ?_
  refine X_callVS (ci := 0) (q := (RX0, TX0, 49)) (As := [_]) (rest := []) C rfl (LX_S hX (k := 0) rfl) q1586 q1588 qs57 q132 q1589 ⟨rfl, nm_X0_bestTold⟩ rfl dX0_lineOf_59 (m_X0_bestTold (Cx_l C) hX (d := d - 1) (by omega) st p2 h) (by omega) (by decide) (Nat.le_of_ble_eq_true rfl) (fun s39 w40 hE41 hP42 => ?_) (fun s45 E43 q44 hE41 hP42 => ?_)
  rotate_left
  · rcases hP42 with ⟨rfl, a_, rfl, hb_, hs_, h⟩ | ⟨rfl, h⟩
    · exact XT_out C rfl (hw s45 a_ hb_ hs_ h)
    · exact XT_out C rfl (ha s45 q44 h)
  obtain ⟨r38, rfl, hb46, hs47, h⟩ := hP42
  refine X_tls ?_
  exact X_aret (v := rv θ (some r38)) C rfl (Or.inl ⟨_, rfl⟩) (isRV_v _ _) dX0_lineOf_62 (hn s39 _ h)

theorem nm_X0_line : yX0_line.cls ≠ "java/lang/invoke/MethodHandle" ∧ yX0_line.cls ≠ "java/lang/invoke/VarHandle" ∧ (parseMethodDescriptor yX0_line.desc).map (fun d => d.parameters.length) = some 2 := by decide +kernel
def w_X0_line_b75 (Φ : St → Int32 → Prop) (st : St) (x1 : Int32) (x2 : Int32) (z0 : Int32) : Prop := w_X0_need st z0 2 (fun (s32 : St) => w_X0_lineOf s32 x1 x2 (fun (s52 : St) (r51 : Option Nat) => ∀ s80, s80 = putR s52 0 42 r51 → ∃ r82, (sR s80 0 42) = some r82 ∧ (sh s80 r82 = 10 ∨ (sh s80 r82 = 11 ∧ r82 < gBIG)) ∧ (sh s80 r82 = 10 → w_J6_length s80 r82 (fun (r86 : Int32) => Φ s80 r86)) ∧ (sh s80 r82 = 11 → r82 < gBIG → w_J11_length s80 r82 (fun (r94 : Int32) => Φ s80 r94))) (fun (s53 : St) (a54 : Nat) => w_X0_answers s53 a54 (fun (s58 : St) (r57 : Int32) => Φ s58 r57)) (fun (s65 : St) => w_X0_isBig s65 (fun (s67 : St) (r66 : Int32) => Φ s67 r66))) (fun (s33 : St) (a34 : Nat) => w_X0_answers s33 a34 (fun (s38 : St) (r37 : Int32) => Φ s38 r37))
theorem t_X0_line_b75 {θ : Th} {κ : Kx} {Ph : Ph} (hX : LX θ) {d : Nat} (hd : 26 ≤ d) (C : Cx θ κ yX0_line cX0_line 4 (some Jvm.ClassFile.FieldType.int) [(0, 98, 99, 377), (0, 98, 105, 1)] d) {Φ : St → Int32 → Prop} (hn : ∀ st r, Φ st r → Ph.1 st (some (.int r))) (st : St) (x1 : Int32) (x2 : Int32) (z0 : Int32) (h : w_X0_line_b75 Φ st x1 x2 z0) : X θ κ Ph st 75 [(0, .ref (ad θ 0)), (1, .int x1), (2, .int x2)] [.int z0] := by
  unfold w_X0_line_b75 at h
  refine X_iconst (v := 2) C dX0_line_75 rfl ?_
  refine X_callS (As := [_, _]) (rest := []) C q421 q422 q132 q423 nm_X0_need rfl dX0_line_76 (m_X0_need (Cx_l C) hX (d := d - 1) (by omega) st z0 2 h) (by omega) (by decide) (Nat.le_of_ble_eq_true rfl) (fun s32 w45 hE46 hP47 => ?_) (fun s50 E48 q49 hE46 hP47 => ?_)
  rotate_left
  · rcases hP47 with ⟨rfl, a_, rfl, hb_, hs_, h⟩
    refine XT_catch C [⟨0, 98, 99, 377⟩] ⟨0, 98, 105, 1⟩ [] rfl (List.forall_mem_cons.mpr ⟨Or.inr ⟨by decide, "java/lang/ArithmeticException", q762, by decide +kernel⟩, (fun _ h => absurd h List.not_mem_nil)⟩) (by decide) (by decide) q412 q425 ?_
    refine X_astore_n C dX0_line_105 rfl (isRV_r _) (lo2 := [(3, _), (0, _), (1, _), (2, _)]) (by decide) rfl ?_
    refine X_aload_n C dX0_line_106 rfl 1 rfl (isRV_r _) ?_
    refine X_aload_n C dX0_line_107 rfl 0 rfl (isRV_r _) ?_
    refine X_callVS (ci := 0) (q := (RX0, TX0, 49)) (As := [_]) (rest := []) C rfl (LX_S hX (k := 0) rfl) q512 q514 qs4 q132 q515 ⟨rfl, nm_X0_answers⟩ rfl dX0_line_108 (m_X0_answers (Cx_l C) hX (d := d - 1) (by omega) s50 a_ hs_ hb_ h) (by omega) (by decide) (Nat.le_of_ble_eq_true rfl) (fun s38 w39 hE40 hP41 => ?_) (fun s44 E42 q43 hE40 hP41 => ?_)
    rotate_left
    · exact False.elim hP41
    obtain ⟨r37, rfl, h⟩ := hP41
    refine X_tls ?_
    have hs_ := Ext_sh hE40 hs_ (by decide)
    exact X_iret C rfl dX0_line_111 (hn s38 _ h)
  obtain ⟨rfl, h⟩ := hP47
  refine X_tln ?_
  refine X_aload_n C dX0_line_79 rfl 0 rfl (isRV_r _) ?_
  refine X_aload_n C dX0_line_80 rfl 0 rfl (isRV_r _) ?_
  refine X_iload_n C dX0_line_81 rfl 1 rfl ?_
  refine X_iload_n C dX0_line_82 rfl 2 rfl ?_
  refine X_callVS (ci := 0) (q := (RX0, TX0, 49)) (As := [_, _]) (rest := [_]) C rfl (LX_S hX (k := 0) rfl) q1347 q1349 qs54 q132 q1350 ⟨rfl, nm_X0_lineOf⟩ rfl dX0_line_83 (m_X0_lineOf (Cx_l C) hX (d := d - 1) (by omega) s32 x1 x2 h) (by omega) (by decide) (Nat.le_of_ble_eq_true rfl) (fun s52 w74 hE75 hP76 => ?_) (fun s79 E77 q78 hE75 hP76 => ?_)
  rotate_left
  · rcases hP76 with ⟨rfl, a_, rfl, hb_, hs_, h⟩ | ⟨rfl, h⟩
    · refine XT_catch C [⟨0, 98, 99, 377⟩] ⟨0, 98, 105, 1⟩ [] rfl (List.forall_mem_cons.mpr ⟨Or.inr ⟨by decide, "java/lang/ArithmeticException", q762, by decide +kernel⟩, (fun _ h => absurd h List.not_mem_nil)⟩) (by decide) (by decide) q412 q425 ?_
      refine X_astore_n C dX0_line_105 rfl (isRV_r _) (lo2 := [(3, _), (0, _), (1, _), (2, _)]) (by decide) rfl ?_
      refine X_aload_n C dX0_line_106 rfl 1 rfl (isRV_r _) ?_
      refine X_aload_n C dX0_line_107 rfl 0 rfl (isRV_r _) ?_
      refine X_callVS (ci := 0) (q := (RX0, TX0, 49)) (As := [_]) (rest := []) C rfl (LX_S hX (k := 0) rfl) q512 q514 qs4 q132 q515 ⟨rfl, nm_X0_answers⟩ rfl dX0_line_108 (m_X0_answers (Cx_l C) hX (d := d - 1) (by omega) s79 a_ hs_ hb_ h) (by omega) (by decide) (Nat.le_of_ble_eq_true rfl) (fun s58 w59 hE60 hP61 => ?_) (fun s64 E62 q63 hE60 hP61 => ?_)
      rotate_left
      · exact False.elim hP61
      obtain ⟨r57, rfl, h⟩ := hP61
      refine X_tls ?_
      have hs_ := Ext_sh hE60 hs_ (by decide)
      exact X_iret C rfl dX0_line_111 (hn s58 _ h)
    · refine XT_catch C [] ⟨0, 98, 99, 377⟩ [⟨0, 98, 105, 1⟩] rfl (fun _ h => absurd h List.not_mem_nil) (by decide) (by decide) q762 q724 ?_
      refine X_astore_n C dX0_line_99 rfl (isRV_r _) (lo2 := [(3, _), (0, _), (1, _), (2, _)]) (by decide) rfl ?_
      refine X_aload_n C dX0_line_100 rfl 1 rfl (isRV_r _) ?_
      refine X_callVS (ci := 0) (q := (RX0, TX0, 49)) (As := []) (rest := []) C rfl (LX_S hX (k := 0) rfl) q860 q862 qs29 q132 q863 ⟨rfl, nm_X0_isBig⟩ rfl dX0_line_101 (m_X0_isBig (Cx_l C) hX (d := d - 1) (by omega) s79 h) (by omega) (by decide) (Nat.le_of_ble_eq_true rfl) (fun s67 w68 hE69 hP70 => ?_) (fun s73 E71 q72 hE69 hP70 => ?_)
      rotate_left
      · exact False.elim hP70
      obtain ⟨r66, rfl, h⟩ := hP70
      refine X_tls ?_
      exact X_iret C rfl dX0_line_104 (hn s67 _ h)
  obtain ⟨r51, rfl, h⟩ := hP76
  refine X_tls ?_
  refine X_putSR (v := r51) (ci := 0) (j := 42) (q := (RX0, TX0, 49)) C rfl (by decide) q302 rfl rfl dX0_line_86 (LX_S hX (k := 0) rfl) (sv_R (Or.inl ⟨_, rfl⟩) _ _) (LX_N hX (k := 0) (j := 42) rfl) (nr_ref (Or.inl ⟨_, rfl⟩)).1 (nr_ref (Or.inl ⟨_, rfl⟩)).2 ?_
  refine X_nm (fun s80 e81 => ?_)
  have h := h s80 e81
  refine X_aload_n C dX0_line_89 rfl 0 rfl (isRV_r _) ?_
  refine X_getS (ci := 0) (j := 42) (q := (RX0, TX0, 49)) C rfl (by decide) q302 rfl dX0_line_90 (LX_S hX (k := 0) rfl) (v := rv θ (sR s80 0 42)) rfl ?_
  obtain ⟨r82, q83, hg_, h1_, h2_⟩ := h
  rw [q83]
  refine X_tor ?_
  rcases hg_ with hs84 | ⟨hs84, hb85⟩
  · have h := h1_ hs84
    refine X_callF (ci := 9) (q := (RJ6, TJ6, 4)) (As := []) (rest := []) C rfl hs84 (by simp [gIF]; try decide) q1592 q1596 q1380 q144 q1382 nmF_19 rfl dX0_line_93 (m_J6_length (Cx_l C) hX (d := d - 1) (by omega) s80 r82 hs84 h) (by omega) (by decide) (Nat.le_of_ble_eq_true rfl) (fun s92 w87 hE88 hP89 => ?_) (fun s93 E90 q91 hE88 hP89 => ?_)
    rotate_left
    · exact False.elim hP89
    obtain ⟨r86, rfl, rfl, h⟩ := hP89
    refine X_tls ?_
    exact X_iret C rfl dX0_line_98 (hn s80 _ h)
  · have h := h2_ hs84 hb85
    refine X_callF (ci := 10) (q := (RJ11, TJ11, 4)) (As := []) (rest := []) C rfl hs84 (by simp [gIF]; try decide) q1592 q1600 q1107 q151 q1108 nmF_19 rfl dX0_line_93 (m_J11_length (Cx_l C) hX (d := d - 1) (by omega) s80 r82 hs84 hb85 h) (by omega) (by decide) (Nat.le_of_ble_eq_true rfl) (fun s100 w95 hE96 hP97 => ?_) (fun s101 E98 q99 hE96 hP97 => ?_)
    rotate_left
    · exact False.elim hP97
    obtain ⟨r94, rfl, rfl, h⟩ := hP97
    refine X_tls ?_
    exact X_iret C rfl dX0_line_98 (hn s80 _ h)
def w_X0_line_b70 (Φ : St → Int32 → Prop) (st : St) (x1 : Int32) (x2 : Int32) : Prop := w_X0_line_b75 Φ st x1 x2 1
theorem t_X0_line_b70 {θ : Th} {κ : Kx} {Ph : Ph} (hX : LX θ) {d : Nat} (hd : 26 ≤ d) (C : Cx θ κ yX0_line cX0_line 4 (some Jvm.ClassFile.FieldType.int) [(0, 98, 99, 377), (0, 98, 105, 1)] d) {Φ : St → Int32 → Prop} (hn : ∀ st r, Φ st r → Ph.1 st (some (.int r))) (st : St) (x1 : Int32) (x2 : Int32) (h : w_X0_line_b70 Φ st x1 x2) : X θ κ Ph st 70 [(0, .ref (ad θ 0)), (1, .int x1), (2, .int x2)] [] := by
  unfold w_X0_line_b70 at h
  refine X_iconst (v := 1) C dX0_line_70 rfl ?_
  refine X_goto (tgt := 75) C dX0_line_71 (by decide) ?_
  exact t_X0_line_b75 hX hd C hn st x1 x2 1 h
def w_X0_line_b52 (Φ : St → Int32 → Prop) (st : St) (x1 : Int32) (x2 : Int32) (z0 : Int32) : Prop := w_X0_must st z0 (fun (s11 : St) => ((x1 ≠ 2) → w_X0_line_b70 Φ s11 x1 x2) ∧ ((x1 = 2) → (((sR s11 2 7) = none) → w_X0_line_b75 Φ s11 x1 x2 0) ∧ ((¬ (sR s11 2 7) = none) → w_X0_line_b70 Φ s11 x1 x2))) (fun (s12 : St) (a13 : Nat) => w_X0_answers s12 a13 (fun (s17 : St) (r16 : Int32) => Φ s17 r16))
theorem t_X0_line_b52 {θ : Th} {κ : Kx} {Ph : Ph} (hX : LX θ) {d : Nat} (hd : 26 ≤ d) (C : Cx θ κ yX0_line cX0_line 4 (some Jvm.ClassFile.FieldType.int) [(0, 98, 99, 377), (0, 98, 105, 1)] d) {Φ : St → Int32 → Prop} (hn : ∀ st r, Φ st r → Ph.1 st (some (.int r))) (st : St) (x1 : Int32) (x2 : Int32) (z0 : Int32) (h : w_X0_line_b52 Φ st x1 x2 z0) : X θ κ Ph st 52 [(0, .ref (ad θ 0)), (1, .int x1), (2, .int x2)] [.int z0] := by
  unfold w_X0_line_b52 at h
  refine X_callS (As := [_]) (rest := []) C q418 q419 q132 q420 nm_X0_must rfl dX0_line_52 (m_X0_must (Cx_l C) hX (d := d - 1) (by omega) st z0 h) (by omega) (by decide) (Nat.le_of_ble_eq_true rfl) (fun s11 w24 hE25 hP26 => ?_) (fun s29 E27 q28 hE25 hP26 => ?_)
  rotate_left
  · rcases hP26 with ⟨rfl, a_, rfl, hb_, hs_, h⟩
    refine XT_catch C [⟨0, 98, 99, 377⟩] ⟨0, 98, 105, 1⟩ [] rfl (List.forall_mem_cons.mpr ⟨Or.inr ⟨by decide, "java/lang/ArithmeticException", q762, by decide +kernel⟩, (fun _ h => absurd h List.not_mem_nil)⟩) (by decide) (by decide) q412 q425 ?_
    refine X_astore_n C dX0_line_105 rfl (isRV_r _) (lo2 := [(3, _), (0, _), (1, _), (2, _)]) (by decide) rfl ?_
    refine X_aload_n C dX0_line_106 rfl 1 rfl (isRV_r _) ?_
    refine X_aload_n C dX0_line_107 rfl 0 rfl (isRV_r _) ?_
    refine X_callVS (ci := 0) (q := (RX0, TX0, 49)) (As := [_]) (rest := []) C rfl (LX_S hX (k := 0) rfl) q512 q514 qs4 q132 q515 ⟨rfl, nm_X0_answers⟩ rfl dX0_line_108 (m_X0_answers (Cx_l C) hX (d := d - 1) (by omega) s29 a_ hs_ hb_ h) (by omega) (by decide) (Nat.le_of_ble_eq_true rfl) (fun s17 w18 hE19 hP20 => ?_) (fun s23 E21 q22 hE19 hP20 => ?_)
    rotate_left
    · exact False.elim hP20
    obtain ⟨r16, rfl, h⟩ := hP20
    refine X_tls ?_
    have hs_ := Ext_sh hE19 hs_ (by decide)
    exact X_iret C rfl dX0_line_111 (hn s17 _ h)
  obtain ⟨rfl, h⟩ := hP26
  refine X_tln ?_
  refine X_iload_n C dX0_line_55 rfl 1 rfl ?_
  refine X_iconst (v := 2) C dX0_line_56 rfl ?_
  refine X_icmp_ne (tgt := 70) C dX0_line_57 (by decide) (fun c30 => ?_) (fun c30 => ?_)
  · have h := h.1 c30
    exact t_X0_line_b70 hX hd C hn s11 x1 x2 h
  · have h := h.2 c30
    refine X_aload_n C dX0_line_60 rfl 0 rfl (isRV_r _) ?_
    refine X_getF (ci := 0) (j := 1) (q := (RX0, TX0, 49)) C rfl (by decide) q261 rfl dX0_line_61 (b := 2) (LX_S hX (k := 0) rfl) (LX_F hX (k := 0) (j := 1) rfl) rfl ?_
    refine X_getNS (ci := 1) (j := 7) (q := (RX1, TX1, 10)) C rfl (by decide) q203 rfl dX0_line_64 (LH_0 (LX_H2 hX)) (v := rv θ (sR s11 2 7)) rfl ?_
    refine X_ifnull (tgt := 74) C (isRV_v _ _) dX0_line_67 (by decide) (fun c102 => ?_) (fun c102 => ?_)
    · have h := h.1 (rv_none.mp c102)
      refine X_iconst (v := 0) C dX0_line_74 rfl ?_
      exact t_X0_line_b75 hX hd C hn s11 x1 x2 0 h
    · have h := h.2 (fun q => c102 (rv_none.mpr q))
      exact t_X0_line_b70 hX hd C hn s11 x1 x2 h
def w_X0_line_b51 (Φ : St → Int32 → Prop) (st : St) (x1 : Int32) (x2 : Int32) : Prop := w_X0_line_b52 Φ st x1 x2 0
theorem t_X0_line_b51 {θ : Th} {κ : Kx} {Ph : Ph} (hX : LX θ) {d : Nat} (hd : 26 ≤ d) (C : Cx θ κ yX0_line cX0_line 4 (some Jvm.ClassFile.FieldType.int) [(0, 98, 99, 377), (0, 98, 105, 1)] d) {Φ : St → Int32 → Prop} (hn : ∀ st r, Φ st r → Ph.1 st (some (.int r))) (st : St) (x1 : Int32) (x2 : Int32) (h : w_X0_line_b51 Φ st x1 x2) : X θ κ Ph st 51 [(0, .ref (ad θ 0)), (1, .int x1), (2, .int x2)] [] := by
  unfold w_X0_line_b51 at h
  refine X_iconst (v := 0) C dX0_line_51 rfl ?_
  exact t_X0_line_b52 hX hd C hn st x1 x2 0 h
def w_X0_line_b47 (Φ : St → Int32 → Prop) (st : St) (x1 : Int32) (x2 : Int32) : Prop := w_X0_line_b52 Φ st x1 x2 1
theorem t_X0_line_b47 {θ : Th} {κ : Kx} {Ph : Ph} (hX : LX θ) {d : Nat} (hd : 26 ≤ d) (C : Cx θ κ yX0_line cX0_line 4 (some Jvm.ClassFile.FieldType.int) [(0, 98, 99, 377), (0, 98, 105, 1)] d) {Φ : St → Int32 → Prop} (hn : ∀ st r, Φ st r → Ph.1 st (some (.int r))) (st : St) (x1 : Int32) (x2 : Int32) (h : w_X0_line_b47 Φ st x1 x2) : X θ κ Ph st 47 [(0, .ref (ad θ 0)), (1, .int x1), (2, .int x2)] [] := by
  unfold w_X0_line_b47 at h
  refine X_iconst (v := 1) C dX0_line_47 rfl ?_
  refine X_goto (tgt := 52) C dX0_line_48 (by decide) ?_
  exact t_X0_line_b52 hX hd C hn st x1 x2 1 h
def w_X0_line (st : St) (p1 : Int32) (p2 : Int32) (Φ : St → Int32 → Prop) : Prop := w_X0_in p1.toInt64 0 3 (fun (r1 : Int32) => ((r1 = 0) → w_X0_line_b51 Φ st p1 p2) ∧ ((¬ r1 = 0) → ((p1 = 2) → w_X0_line_b47 Φ st p1 p2) ∧ ((¬ p1 = 2) → ((p1 ≠ 1) → w_X1_isPoint 2 st p2 (fun (r105 : Int32) => ((r105 = 0) → w_X0_line_b51 Φ st p1 p2) ∧ ((¬ r105 = 0) → w_X0_line_b47 Φ st p1 p2))) ∧ ((p1 = 1) → w_X1_isState 2 st p2 (fun (r114 : Int32) => ((r114 = 0) → w_X0_line_b51 Φ st p1 p2) ∧ ((¬ r114 = 0) → w_X0_line_b47 Φ st p1 p2))))))
theorem e_X0_line : plainFor yX0_line = true := plainFor_of_name (by decide +kernel)
theorem m_X0_line {θ : Th} {l : Launch} (hl0 : l.stackTraces = false) (hX : LX θ) {d : Nat} (hd : 26 ≤ d) (st : St) (p1 : Int32) (p2 : Int32) {Φ : St → Int32 → Prop} (h : w_X0_line st p1 p2 Φ) : Ct θ l yX0_line (wsW_ yX0_line cX0_line 4 (some Jvm.ClassFile.FieldType.int) [(0, 98, 99, 377), (0, 98, 105, 1)]) d [.ref (ad θ 0), .int p1, .int p2] st (pI Φ, noX) := by
  refine Ct_entryW hl0 e_X0_line (Nat.le_of_ble_eq_true rfl) (fun κ hκ _ C => ?_)
  have hn : ∀ st r, Φ st r → ((pI Φ, noX) : Ph).1 st (some (.int r)) := fun st r q => ⟨r, rfl, q⟩
  change X _ _ _ _ _ [(0, .ref (ad θ 0)), (1, .int p1), (2, .int p2)] _
  unfold w_X0_line at h
  refine X_iload_n C dX0_line_0 rfl 1 rfl ?_
  refine X_i2l C dX0_line_1 ?_
  refine X_lconst (v := 0) C dX0_line_2 rfl ?_
  refine X_ldc2 C q414 dX0_line_3 ?_
  refine X_callS (As := [_, _, _]) (rest := []) C q415 q416 q132 q417 nm_X0_in rfl dX0_line_6 (m_X0_in (Cx_l C) (d := d - 1) (by omega) st p1.toInt64 0 3 h) (by omega) (by decide) (Nat.le_of_ble_eq_true rfl) (fun s7 w2 hE3 hP4 => ?_) (fun s8 E5 q6 hE3 hP4 => ?_)
  rotate_left
  · exact False.elim hP4
  obtain ⟨r1, rfl, rfl, h⟩ := hP4
  refine X_tls ?_
  refine X_if_eq (tgt := 51) C dX0_line_9 (by decide) (fun c9 => ?_) (fun c9 => ?_)
  · have h := h.1 c9
    exact t_X0_line_b51 hX hd C hn st p1 p2 h
  · have h := h.2 c9
    refine X_iload_n C dX0_line_12 rfl 1 rfl ?_
    refine X_iconst (v := 2) C dX0_line_13 rfl ?_
    refine X_icmp_eq (tgt := 47) C dX0_line_14 (by decide) (fun c103 => ?_) (fun c103 => ?_)
    · have h := h.1 c103
      exact t_X0_line_b47 hX hd C hn st p1 p2 h
    · have h := h.2 c103
      refine X_iload_n C dX0_line_17 rfl 1 rfl ?_
      refine X_iconst (v := 1) C dX0_line_18 rfl ?_
      refine X_icmp_ne (tgt := 36) C dX0_line_19 (by decide) (fun c104 => ?_) (fun c104 => ?_)
      · have h := h.1 c104
        refine X_aload_n C dX0_line_36 rfl 0 rfl (isRV_r _) ?_
        refine X_getF (ci := 0) (j := 1) (q := (RX0, TX0, 49)) C rfl (by decide) q261 rfl dX0_line_37 (b := 2) (LX_S hX (k := 0) rfl) (LX_F hX (k := 0) (j := 1) rfl) rfl ?_
        refine X_iload_n C dX0_line_40 rfl 2 rfl ?_
        refine X_callVS (ci := 1) (q := (RX1, TX1, 10)) (As := [_]) (rest := []) C rfl (LH_0 (LX_H2 hX)) q619 q620 q621 q133 q622 ⟨rfl, nm_X1_isPoint⟩ rfl dX0_line_41 (m_X1_isPoint (Cx_l C) (LX_H2 hX) (d := d - 1) (by omega) st p2 h) (by omega) (by decide) (Nat.le_of_ble_eq_true rfl) (fun s111 w106 hE107 hP108 => ?_) (fun s112 E109 q110 hE107 hP108 => ?_)
        rotate_left
        · exact False.elim hP108
        obtain ⟨r105, rfl, rfl, h⟩ := hP108
        refine X_tls ?_
        refine X_if_eq (tgt := 51) C dX0_line_44 (by decide) (fun c113 => ?_) (fun c113 => ?_)
        · have h := h.1 c113
          exact t_X0_line_b51 hX hd C hn st p1 p2 h
        · have h := h.2 c113
          exact t_X0_line_b47 hX hd C hn st p1 p2 h
      · have h := h.2 c104
        refine X_aload_n C dX0_line_22 rfl 0 rfl (isRV_r _) ?_
        refine X_getF (ci := 0) (j := 1) (q := (RX0, TX0, 49)) C rfl (by decide) q261 rfl dX0_line_23 (b := 2) (LX_S hX (k := 0) rfl) (LX_F hX (k := 0) (j := 1) rfl) rfl ?_
        refine X_iload_n C dX0_line_26 rfl 2 rfl ?_
        refine X_callVS (ci := 1) (q := (RX1, TX1, 10)) (As := [_]) (rest := []) C rfl (LH_0 (LX_H2 hX)) q628 q629 q630 q133 q631 ⟨rfl, nm_X1_isState⟩ rfl dX0_line_27 (m_X1_isState (Cx_l C) (LX_H2 hX) (d := d - 1) (by omega) st p2 h) (by omega) (by decide) (Nat.le_of_ble_eq_true rfl) (fun s120 w115 hE116 hP117 => ?_) (fun s121 E118 q119 hE116 hP117 => ?_)
        rotate_left
        · exact False.elim hP117
        obtain ⟨r114, rfl, rfl, h⟩ := hP117
        refine X_tls ?_
        refine X_if_eq (tgt := 51) C dX0_line_30 (by decide) (fun c122 => ?_) (fun c122 => ?_)
        · have h := h.1 c122
          exact t_X0_line_b51 hX hd C hn st p1 p2 h
        · have h := h.2 c122
          refine X_goto (tgt := 47) C dX0_line_33 (by decide) ?_
          exact t_X0_line_b47 hX hd C hn st p1 p2 h

theorem nm_X0_letter : yX0_letter.cls ≠ "java/lang/invoke/MethodHandle" ∧ yX0_letter.cls ≠ "java/lang/invoke/VarHandle" ∧ (parseMethodDescriptor yX0_letter.desc).map (fun d => d.parameters.length) = some 1 := by decide +kernel
def w_X0_letter (st : St) (p1 : Int32) (Φ : St → Int32 → Prop) : Prop := ∃ r1, (sR st 0 42) = some r1 ∧ (sh st r1 = 10 ∨ (sh st r1 = 11 ∧ r1 < gBIG)) ∧ (sh st r1 = 10 → w_J6_length st r1 (fun (r5 : Int32) => w_X0_in p1.toInt64 0 (r5 - 1).toInt64 (fun (r13 : Int32) => w_X0_must st r13 (fun (s22 : St) => ∃ r41, (sR s22 0 42) = some r41 ∧ (sh s22 r41 = 10 ∨ (sh s22 r41 = 11 ∧ r41 < gBIG)) ∧ (sh s22 r41 = 10 → w_J6_charAt s22 r41 p1 (fun (r45 : Int32) => Φ s22 r45)) ∧ (sh s22 r41 = 11 → r41 < gBIG → w_J11_charAt s22 r41 p1 (fun (r53 : Int32) => Φ s22 r53))) (fun (s23 : St) (a24 : Nat) => w_X0_answers s23 a24 (fun (s28 : St) (r27 : Int32) => Φ s28 r27))))) ∧ (sh st r1 = 11 → r1 < gBIG → w_J11_length st r1 (fun (r61 : Int32) => w_X0_in p1.toInt64 0 (r61 - 1).toInt64 (fun (r69 : Int32) => w_X0_must st r69 (fun (s78 : St) => ∃ r97, (sR s78 0 42) = some r97 ∧ (sh s78 r97 = 10 ∨ (sh s78 r97 = 11 ∧ r97 < gBIG)) ∧ (sh s78 r97 = 10 → w_J6_charAt s78 r97 p1 (fun (r101 : Int32) => Φ s78 r101)) ∧ (sh s78 r97 = 11 → r97 < gBIG → w_J11_charAt s78 r97 p1 (fun (r109 : Int32) => Φ s78 r109))) (fun (s79 : St) (a80 : Nat) => w_X0_answers s79 a80 (fun (s84 : St) (r83 : Int32) => Φ s84 r83)))))
theorem e_X0_letter : plainFor yX0_letter = true := plainFor_of_name (by decide +kernel)
theorem m_X0_letter {θ : Th} {l : Launch} (hl0 : l.stackTraces = false) (hX : LX θ) {d : Nat} (hd : 6 ≤ d) (st : St) (p1 : Int32) {Φ : St → Int32 → Prop} (h : w_X0_letter st p1 Φ) : Ct θ l yX0_letter (wsW_ yX0_letter cX0_letter 3 (some Jvm.ClassFile.FieldType.int) [(0, 31, 32, 1)]) d [.ref (ad θ 0), .int p1] st (pI Φ, noX) := by
  refine Ct_entryW hl0 e_X0_letter (Nat.le_of_ble_eq_true rfl) (fun κ hκ _ C => ?_)
  have hn : ∀ st r, Φ st r → ((pI Φ, noX) : Ph).1 st (some (.int r)) := fun st r q => ⟨r, rfl, q⟩
  change X _ _ _ _ _ [(0, .ref (ad θ 0)), (1, .int p1)] _
  unfold w_X0_letter at h
  refine X_iload_n C dX0_letter_0 rfl 1 rfl ?_
  refine X_i2l C dX0_letter_1 ?_
  refine X_lconst (v := 0) C dX0_letter_2 rfl ?_
  refine X_aload_n C dX0_letter_3 rfl 0 rfl (isRV_r _) ?_
  refine X_getS (ci := 0) (j := 42) (q := (RX0, TX0, 49)) C rfl (by decide) q302 rfl dX0_letter_4 (LX_S hX (k := 0) rfl) (v := rv θ (sR st 0 42)) rfl ?_
  obtain ⟨r1, q2, hg_, h1_, h2_⟩ := h
  rw [q2]
  refine X_tor ?_
  rcases hg_ with hs3 | ⟨hs3, hb4⟩
  · have h := h1_ hs3
    refine X_callF (ci := 9) (q := (RJ6, TJ6, 4)) (As := []) (rest := [_, _]) C rfl hs3 (by simp [gIF]; try decide) q1592 q1596 q1380 q144 q1382 nmF_19 rfl dX0_letter_7 (m_J6_length (Cx_l C) hX (d := d - 1) (by omega) st r1 hs3 h) (by omega) (by decide) (Nat.le_of_ble_eq_true rfl) (fun s11 w6 hE7 hP8 => ?_) (fun s12 E9 q10 hE7 hP8 => ?_)
    rotate_left
    · exact False.elim hP8
    obtain ⟨r5, rfl, rfl, h⟩ := hP8
    refine X_tls ?_
    refine X_iconst (v := 1) C dX0_letter_12 rfl ?_
    refine X_isub C dX0_letter_13 ?_
    refine X_i2l C dX0_letter_14 ?_
    refine X_callS (As := [_, _, _]) (rest := []) C q415 q416 q132 q417 nm_X0_in rfl dX0_letter_15 (m_X0_in (Cx_l C) (d := d - 1) (by omega) st p1.toInt64 0 (r5 - 1).toInt64 h) (by omega) (by decide) (Nat.le_of_ble_eq_true rfl) (fun s19 w14 hE15 hP16 => ?_) (fun s20 E17 q18 hE15 hP16 => ?_)
    rotate_left
    · exact False.elim hP16
    obtain ⟨r13, rfl, rfl, h⟩ := hP16
    refine X_tls ?_
    refine X_callS (As := [_]) (rest := []) C q418 q419 q132 q420 nm_X0_must rfl dX0_letter_18 (m_X0_must (Cx_l C) hX (d := d - 1) (by omega) st r13 h) (by omega) (by decide) (Nat.le_of_ble_eq_true rfl) (fun s22 w35 hE36 hP37 => ?_) (fun s40 E38 q39 hE36 hP37 => ?_)
    rotate_left
    · rcases hP37 with ⟨rfl, a_, rfl, hb_, hs_, h⟩
      have hs3 := Ext_sh hE36 hs3 (by decide)
      refine XT_catch C [] ⟨0, 31, 32, 1⟩ [] rfl (fun _ h => absurd h List.not_mem_nil) (by decide) (by decide) q412 q425 ?_
      refine X_astore_n C dX0_letter_32 rfl (isRV_r _) (lo2 := [(2, _), (0, _), (1, _)]) (by decide) rfl ?_
      refine X_aload_n C dX0_letter_33 rfl 1 rfl (isRV_r _) ?_
      refine X_aload_n C dX0_letter_34 rfl 0 rfl (isRV_r _) ?_
      refine X_callVS (ci := 0) (q := (RX0, TX0, 49)) (As := [_]) (rest := []) C rfl (LX_S hX (k := 0) rfl) q512 q514 qs4 q132 q515 ⟨rfl, nm_X0_answers⟩ rfl dX0_letter_35 (m_X0_answers (Cx_l C) hX (d := d - 1) (by omega) s40 a_ hs_ hb_ h) (by omega) (by decide) (Nat.le_of_ble_eq_true rfl) (fun s28 w29 hE30 hP31 => ?_) (fun s34 E32 q33 hE30 hP31 => ?_)
      rotate_left
      · exact False.elim hP31
      obtain ⟨r27, rfl, h⟩ := hP31
      refine X_tls ?_
      have hs3 := Ext_sh hE30 hs3 (by decide)
      have hs_ := Ext_sh hE30 hs_ (by decide)
      exact X_iret C rfl dX0_letter_38 (hn s28 _ h)
    obtain ⟨rfl, h⟩ := hP37
    refine X_tln ?_
    have hs3 := Ext_sh hE36 hs3 (by decide)
    refine X_aload_n C dX0_letter_21 rfl 0 rfl (isRV_r _) ?_
    refine X_getS (ci := 0) (j := 42) (q := (RX0, TX0, 49)) C rfl (by decide) q302 rfl dX0_letter_22 (LX_S hX (k := 0) rfl) (v := rv θ (sR s22 0 42)) rfl ?_
    refine X_iload_n C dX0_letter_25 rfl 1 rfl ?_
    obtain ⟨r41, q42, hg_, h1_, h2_⟩ := h
    rw [q42]
    rcases hg_ with hs43 | ⟨hs43, hb44⟩
    · have h := h1_ hs43
      refine X_callF (ci := 9) (q := (RJ6, TJ6, 4)) (As := [_]) (rest := []) C rfl hs43 (by simp [gIF]; try decide) q1608 q1611 q1613 q144 q1615 nmF_18 rfl dX0_letter_26 (m_J6_charAt (Cx_l C) hX (d := d - 1) (by omega) s22 r41 p1 hs43 h) (by omega) (by decide) (Nat.le_of_ble_eq_true rfl) (fun s51 w46 hE47 hP48 => ?_) (fun s52 E49 q50 hE47 hP48 => ?_)
      rotate_left
      · exact False.elim hP48
      obtain ⟨r45, rfl, rfl, h⟩ := hP48
      refine X_tls ?_
      exact X_iret C rfl dX0_letter_31 (hn s22 _ h)
    · have h := h2_ hs43 hb44
      refine X_callF (ci := 10) (q := (RJ11, TJ11, 4)) (As := [_]) (rest := []) C rfl hs43 (by simp [gIF]; try decide) q1608 q1623 q1625 q151 q1627 nmF_18 rfl dX0_letter_26 (m_J11_charAt (Cx_l C) hX (d := d - 1) (by omega) s22 r41 p1 hs43 hb44 h) (by omega) (by decide) (Nat.le_of_ble_eq_true rfl) (fun s59 w54 hE55 hP56 => ?_) (fun s60 E57 q58 hE55 hP56 => ?_)
      rotate_left
      · exact False.elim hP56
      obtain ⟨r53, rfl, rfl, h⟩ := hP56
      refine X_tls ?_
      exact X_iret C rfl dX0_letter_31 (hn s22 _ h)
  · have h := h2_ hs3 hb4
    refine X_callF (ci := 10) (q := (RJ11, TJ11, 4)) (As := []) (rest := [_, _]) C rfl hs3 (by simp [gIF]; try decide) q1592 q1600 q1107 q151 q1108 nmF_19 rfl dX0_letter_7 (m_J11_length (Cx_l C) hX (d := d - 1) (by omega) st r1 hs3 hb4 h) (by omega) (by decide) (Nat.le_of_ble_eq_true rfl) (fun s67 w62 hE63 hP64 => ?_) (fun s68 E65 q66 hE63 hP64 => ?_)
    rotate_left
    · exact False.elim hP64
    obtain ⟨r61, rfl, rfl, h⟩ := hP64
    refine X_tls ?_
    refine X_iconst (v := 1) C dX0_letter_12 rfl ?_
    refine X_isub C dX0_letter_13 ?_
    refine X_i2l C dX0_letter_14 ?_
    refine X_callS (As := [_, _, _]) (rest := []) C q415 q416 q132 q417 nm_X0_in rfl dX0_letter_15 (m_X0_in (Cx_l C) (d := d - 1) (by omega) st p1.toInt64 0 (r61 - 1).toInt64 h) (by omega) (by decide) (Nat.le_of_ble_eq_true rfl) (fun s75 w70 hE71 hP72 => ?_) (fun s76 E73 q74 hE71 hP72 => ?_)
    rotate_left
    · exact False.elim hP72
    obtain ⟨r69, rfl, rfl, h⟩ := hP72
    refine X_tls ?_
    refine X_callS (As := [_]) (rest := []) C q418 q419 q132 q420 nm_X0_must rfl dX0_letter_18 (m_X0_must (Cx_l C) hX (d := d - 1) (by omega) st r69 h) (by omega) (by decide) (Nat.le_of_ble_eq_true rfl) (fun s78 w91 hE92 hP93 => ?_) (fun s96 E94 q95 hE92 hP93 => ?_)
    rotate_left
    · rcases hP93 with ⟨rfl, a_, rfl, hb_, hs_, h⟩
      have hs3 := Ext_sh hE92 hs3 (by decide)
      refine XT_catch C [] ⟨0, 31, 32, 1⟩ [] rfl (fun _ h => absurd h List.not_mem_nil) (by decide) (by decide) q412 q425 ?_
      refine X_astore_n C dX0_letter_32 rfl (isRV_r _) (lo2 := [(2, _), (0, _), (1, _)]) (by decide) rfl ?_
      refine X_aload_n C dX0_letter_33 rfl 1 rfl (isRV_r _) ?_
      refine X_aload_n C dX0_letter_34 rfl 0 rfl (isRV_r _) ?_
      refine X_callVS (ci := 0) (q := (RX0, TX0, 49)) (As := [_]) (rest := []) C rfl (LX_S hX (k := 0) rfl) q512 q514 qs4 q132 q515 ⟨rfl, nm_X0_answers⟩ rfl dX0_letter_35 (m_X0_answers (Cx_l C) hX (d := d - 1) (by omega) s96 a_ hs_ hb_ h) (by omega) (by decide) (Nat.le_of_ble_eq_true rfl) (fun s84 w85 hE86 hP87 => ?_) (fun s90 E88 q89 hE86 hP87 => ?_)
      rotate_left
      · exact False.elim hP87
      obtain ⟨r83, rfl, h⟩ := hP87
      refine X_tls ?_
      have hs3 := Ext_sh hE86 hs3 (by decide)
      have hs_ := Ext_sh hE86 hs_ (by decide)
      exact X_iret C rfl dX0_letter_38 (hn s84 _ h)
    obtain ⟨rfl, h⟩ := hP93
    refine X_tln ?_
    have hs3 := Ext_sh hE92 hs3 (by decide)
    refine X_aload_n C dX0_letter_21 rfl 0 rfl (isRV_r _) ?_
    refine X_getS (ci := 0) (j := 42) (q := (RX0, TX0, 49)) C rfl (by decide) q302 rfl dX0_letter_22 (LX_S hX (k := 0) rfl) (v := rv θ (sR s78 0 42)) rfl ?_
    refine X_iload_n C dX0_letter_25 rfl 1 rfl ?_
    obtain ⟨r97, q98, hg_, h1_, h2_⟩ := h
    rw [q98]
    rcases hg_ with hs99 | ⟨hs99, hb100⟩
    · have h := h1_ hs99
      refine X_callF (ci := 9) (q := (RJ6, TJ6, 4)) (As := [_]) (rest := []) C rfl hs99 (by simp [gIF]; try decide) q1608 q1611 q1613 q144 q1615 nmF_18 rfl dX0_letter_26 (m_J6_charAt (Cx_l C) hX (d := d - 1) (by omega) s78 r97 p1 hs99 h) (by omega) (by decide) (Nat.le_of_ble_eq_true rfl) (fun s107 w102 hE103 hP104 => ?_) (fun s108 E105 q106 hE103 hP104 => ?_)
      rotate_left
      · exact False.elim hP104
      obtain ⟨r101, rfl, rfl, h⟩ := hP104
      refine X_tls ?_
      exact X_iret C rfl dX0_letter_31 (hn s78 _ h)
    · have h := h2_ hs99 hb100
      refine X_callF (ci := 10) (q := (RJ11, TJ11, 4)) (As := [_]) (rest := []) C rfl hs99 (by simp [gIF]; try decide) q1608 q1623 q1625 q151 q1627 nmF_18 rfl dX0_letter_26 (m_J11_charAt (Cx_l C) hX (d := d - 1) (by omega) s78 r97 p1 hs99 hb100 h) (by omega) (by decide) (Nat.le_of_ble_eq_true rfl) (fun s115 w110 hE111 hP112 => ?_) (fun s116 E113 q114 hE111 hP112 => ?_)
      rotate_left
      · exact False.elim hP112
      obtain ⟨r109, rfl, rfl, h⟩ := hP112
      refine X_tls ?_
      exact X_iret C rfl dX0_letter_31 (hn s78 _ h)

theorem nm_X0_letters : yX0_letters.cls ≠ "java/lang/invoke/MethodHandle" ∧ yX0_letters.cls ≠ "java/lang/invoke/VarHandle" ∧ (parseMethodDescriptor yX0_letters.desc).map (fun d => d.parameters.length) = some 1 := by decide +kernel
def w_X0_letters_b37 (Φ : St → Int32 → Prop) (K4 : St → Int32 → Int32 → Int32 → Prop) (st : St) (x1 : Int32) (x3 : Int32) (z0 : Int32) (z1 : Int32) : Prop := ∀ v23 : Int32, v23 = (z1 + z0) → K4 st x1 v23 (x3 + 1)
theorem t_X0_letters_b37 {θ : Th} {κ : Kx} {Ph : Ph} (hX : LX θ) {d : Nat} (hd : 4 ≤ d) (C : Cx θ κ yX0_letters cX0_letters 4 (some Jvm.ClassFile.FieldType.int) [] d) {Φ : St → Int32 → Prop} (hn : ∀ st r, Φ st r → Ph.1 st (some (.int r))) {K4 : St → Int32 → Int32 → Int32 → Prop} (hK4 : ∀ (st : St) (x1 : Int32) (x2 : Int32) (x3 : Int32), K4 st x1 x2 x3 → X θ κ Ph st 4 [(0, .ref (ad θ 0)), (1, .int x1), (2, .int x2), (3, .int x3)] []) (st : St) (x1 : Int32) (x3 : Int32) (z0 : Int32) (z1 : Int32) (h : w_X0_letters_b37 Φ K4 st x1 x3 z0 z1) : X θ κ Ph st 37 [(0, .ref (ad θ 0)), (1, .int x1), (3, .int x3)] [.int z0, .int z1] := by
  unfold w_X0_letters_b37 at h
  refine X_iadd C dX0_letters_37 ?_
  refine X_topi (fun v23 e24 => ?_)
  have h := h v23 e24
  refine X_istore_n C dX0_letters_38 rfl (lo2 := [(2, _), (0, _), (1, _), (3, _)]) (by decide) rfl ?_
  refine X_iinc (v := (x3 + 1)) C (j := 3) dX0_letters_39 rfl rfl (lo2 := [(3, _), (2, _), (0, _), (1, _)]) (by decide) rfl ?_
  refine X_goto (tgt := 4) C dX0_letters_42 (by decide) ?_
  refine X_sub [2, 3, 1, 0] (lo2 := [(0, _), (1, _), (2, _), (3, _)]) rfl ?_
  exact hK4 st x1 v23 (x3 + 1) h
def w_X0_letters_l4 (Φ : St → Int32 → Prop) (E45 : St → Int32 → Prop) : Nat → St → Int32 → Int32 → Int32 → Prop
  | 0, _, _, _, _ => False
  | n + 1, st, x1, x2, x3 => ∃ r1, (sR st 0 42) = some r1 ∧ (sh st r1 = 10 ∨ (sh st r1 = 11 ∧ r1 < gBIG)) ∧ (sh st r1 = 10 → w_J6_length st r1 (fun (r5 : Int32) => ((r5 ≤ x3) → E45 st x2) ∧ ((¬ r5 ≤ x3) → w_J6_charAt st r1 x3 (fun (r14 : Int32) => ((r14 ≠ x1) → w_X0_letters_b37 Φ (w_X0_letters_l4 Φ E45 n) st x1 x3 0 x2) ∧ ((r14 = x1) → w_X0_letters_b37 Φ (w_X0_letters_l4 Φ E45 n) st x1 x3 1 x2))))) ∧ (sh st r1 = 11 → r1 < gBIG → w_J11_length st r1 (fun (r25 : Int32) => ((r25 ≤ x3) → E45 st x2) ∧ ((¬ r25 ≤ x3) → w_J11_charAt st r1 x3 (fun (r34 : Int32) => ((r34 ≠ x1) → w_X0_letters_b37 Φ (w_X0_letters_l4 Φ E45 n) st x1 x3 0 x2) ∧ ((r34 = x1) → w_X0_letters_b37 Φ (w_X0_letters_l4 Φ E45 n) st x1 x3 1 x2)))))
theorem t_X0_letters_l4 {θ : Th} {κ : Kx} {Ph : Ph} (hX : LX θ) {d : Nat} (hd : 4 ≤ d) (C : Cx θ κ yX0_letters cX0_letters 4 (some Jvm.ClassFile.FieldType.int) [] d) {Φ : St → Int32 → Prop} (hn : ∀ st r, Φ st r → Ph.1 st (some (.int r))) {E45 : St → Int32 → Prop} (hE45 : ∀ (st : St) (x2 : Int32), E45 st x2 → X θ κ Ph st 45 [(2, .int x2)] []) : ∀ (n : Nat) (st : St) (x1 : Int32) (x2 : Int32) (x3 : Int32), w_X0_letters_l4 Φ E45 n st x1 x2 x3 → X θ κ Ph st 4 [(0, .ref (ad θ 0)), (1, .int x1), (2, .int x2), (3, .int x3)] [] := by
  intro n
  induction n with
  | zero => intro st x1 x2 x3 h; exact h.elim
  | succ n hK4 =>
    intro st x1 x2 x3 h
    rw [w_X0_letters_l4] at h
    refine X_iload_n C dX0_letters_4 rfl 3 rfl ?_
    refine X_aload_n C dX0_letters_5 rfl 0 rfl (isRV_r _) ?_
    refine X_getS (ci := 0) (j := 42) (q := (RX0, TX0, 49)) C rfl (by decide) q302 rfl dX0_letters_6 (LX_S hX (k := 0) rfl) (v := rv θ (sR st 0 42)) rfl ?_
    obtain ⟨r1, q2, hg_, h1_, h2_⟩ := h
    rw [q2]
    refine X_tor ?_
    rcases hg_ with hs3 | ⟨hs3, hb4⟩
    · have h := h1_ hs3
      refine X_callF (ci := 9) (q := (RJ6, TJ6, 4)) (As := []) (rest := [_]) C rfl hs3 (by simp [gIF]; try decide) q1592 q1596 q1380 q144 q1382 nmF_19 rfl dX0_letters_9 (m_J6_length (Cx_l C) hX (d := d - 1) (by omega) st r1 hs3 h) (by omega) (by decide) (Nat.le_of_ble_eq_true rfl) (fun s11 w6 hE7 hP8 => ?_) (fun s12 E9 q10 hE7 hP8 => ?_)
      rotate_left
      · exact False.elim hP8
      obtain ⟨r5, rfl, rfl, h⟩ := hP8
      refine X_tls ?_
      refine X_icmp_ge (tgt := 45) C dX0_letters_14 (by decide) (fun c13 => ?_) (fun c13 => ?_)
      · have h := h.1 c13
        refine X_sub [2] (lo2 := [(2, _)]) rfl ?_
        exact hE45 st x2 h
      · have h := h.2 c13
        refine X_iload_n C dX0_letters_17 rfl 2 rfl ?_
        refine X_aload_n C dX0_letters_18 rfl 0 rfl (isRV_r _) ?_
        refine X_getS (ci := 0) (j := 42) (q := (RX0, TX0, 49)) C rfl (by decide) q302 rfl dX0_letters_19 (LX_S hX (k := 0) rfl) (v := rv θ (sR st 0 42)) rfl ?_
        rw [q2]
        refine X_tor ?_
        refine X_iload_n C dX0_letters_22 rfl 3 rfl ?_
        refine X_callF (ci := 9) (q := (RJ6, TJ6, 4)) (As := [_]) (rest := [_]) C rfl hs3 (by simp [gIF]; try decide) q1608 q1611 q1613 q144 q1615 nmF_18 rfl dX0_letters_23 (m_J6_charAt (Cx_l C) hX (d := d - 1) (by omega) st r1 x3 hs3 h) (by omega) (by decide) (Nat.le_of_ble_eq_true rfl) (fun s20 w15 hE16 hP17 => ?_) (fun s21 E18 q19 hE16 hP17 => ?_)
        rotate_left
        · exact False.elim hP17
        obtain ⟨r14, rfl, rfl, h⟩ := hP17
        refine X_tls ?_
        refine X_iload_n C dX0_letters_28 rfl 1 rfl ?_
        refine X_icmp_ne (tgt := 36) C dX0_letters_29 (by decide) (fun c22 => ?_) (fun c22 => ?_)
        · have h := h.1 c22
          refine X_iconst (v := 0) C dX0_letters_36 rfl ?_
          refine X_sub [0, 1, 3] (lo2 := [(0, _), (1, _), (3, _)]) rfl ?_
          exact t_X0_letters_b37 hX hd C hn hK4 st x1 x3 0 x2 h
        · have h := h.2 c22
          refine X_iconst (v := 1) C dX0_letters_32 rfl ?_
          refine X_goto (tgt := 37) C dX0_letters_33 (by decide) ?_
          refine X_sub [0, 1, 3] (lo2 := [(0, _), (1, _), (3, _)]) rfl ?_
          exact t_X0_letters_b37 hX hd C hn hK4 st x1 x3 1 x2 h
    · have h := h2_ hs3 hb4
      refine X_callF (ci := 10) (q := (RJ11, TJ11, 4)) (As := []) (rest := [_]) C rfl hs3 (by simp [gIF]; try decide) q1592 q1600 q1107 q151 q1108 nmF_19 rfl dX0_letters_9 (m_J11_length (Cx_l C) hX (d := d - 1) (by omega) st r1 hs3 hb4 h) (by omega) (by decide) (Nat.le_of_ble_eq_true rfl) (fun s31 w26 hE27 hP28 => ?_) (fun s32 E29 q30 hE27 hP28 => ?_)
      rotate_left
      · exact False.elim hP28
      obtain ⟨r25, rfl, rfl, h⟩ := hP28
      refine X_tls ?_
      refine X_icmp_ge (tgt := 45) C dX0_letters_14 (by decide) (fun c33 => ?_) (fun c33 => ?_)
      · have h := h.1 c33
        refine X_sub [2] (lo2 := [(2, _)]) rfl ?_
        exact hE45 st x2 h
      · have h := h.2 c33
        refine X_iload_n C dX0_letters_17 rfl 2 rfl ?_
        refine X_aload_n C dX0_letters_18 rfl 0 rfl (isRV_r _) ?_
        refine X_getS (ci := 0) (j := 42) (q := (RX0, TX0, 49)) C rfl (by decide) q302 rfl dX0_letters_19 (LX_S hX (k := 0) rfl) (v := rv θ (sR st 0 42)) rfl ?_
        rw [q2]
        refine X_tor ?_
        refine X_iload_n C dX0_letters_22 rfl 3 rfl ?_
        refine X_callF (ci := 10) (q := (RJ11, TJ11, 4)) (As := [_]) (rest := [_]) C rfl hs3 (by simp [gIF]; try decide) q1608 q1623 q1625 q151 q1627 nmF_18 rfl dX0_letters_23 (m_J11_charAt (Cx_l C) hX (d := d - 1) (by omega) st r1 x3 hs3 hb4 h) (by omega) (by decide) (Nat.le_of_ble_eq_true rfl) (fun s40 w35 hE36 hP37 => ?_) (fun s41 E38 q39 hE36 hP37 => ?_)
        rotate_left
        · exact False.elim hP37
        obtain ⟨r34, rfl, rfl, h⟩ := hP37
        refine X_tls ?_
        refine X_iload_n C dX0_letters_28 rfl 1 rfl ?_
        refine X_icmp_ne (tgt := 36) C dX0_letters_29 (by decide) (fun c42 => ?_) (fun c42 => ?_)
        · have h := h.1 c42
          refine X_iconst (v := 0) C dX0_letters_36 rfl ?_
          refine X_sub [0, 1, 3] (lo2 := [(0, _), (1, _), (3, _)]) rfl ?_
          exact t_X0_letters_b37 hX hd C hn hK4 st x1 x3 0 x2 h
        · have h := h.2 c42
          refine X_iconst (v := 1) C dX0_letters_32 rfl ?_
          refine X_goto (tgt := 37) C dX0_letters_33 (by decide) ?_
          refine X_sub [0, 1, 3] (lo2 := [(0, _), (1, _), (3, _)]) rfl ?_
          exact t_X0_letters_b37 hX hd C hn hK4 st x1 x3 1 x2 h
def w_X0_letters_b45 (Φ : St → Int32 → Prop) (st : St) (x2 : Int32) : Prop := Φ st x2
theorem t_X0_letters_b45 {θ : Th} {κ : Kx} {Ph : Ph} (hX : LX θ) {d : Nat} (hd : 4 ≤ d) (C : Cx θ κ yX0_letters cX0_letters 4 (some Jvm.ClassFile.FieldType.int) [] d) {Φ : St → Int32 → Prop} (hn : ∀ st r, Φ st r → Ph.1 st (some (.int r))) (st : St) (x2 : Int32) (h : w_X0_letters_b45 Φ st x2) : X θ κ Ph st 45 [(2, .int x2)] [] := by
  unfold w_X0_letters_b45 at h
  refine X_iload_n C dX0_letters_45 rfl 0 rfl ?_
  exact X_iret C rfl dX0_letters_46 (hn st _ h)
def w_X0_letters (st : St) (p1 : Int32) (Φ : St → Int32 → Prop) : Prop := w_X0_letters_l4 Φ (fun (s43 : St) (x2 : Int32) => w_X0_letters_b45 Φ s43 x2) gFU st p1 0 0
theorem e_X0_letters : plainFor yX0_letters = true := plainFor_of_name (by decide +kernel)
theorem m_X0_letters {θ : Th} {l : Launch} (hl0 : l.stackTraces = false) (hX : LX θ) {d : Nat} (hd : 4 ≤ d) (st : St) (p1 : Int32) {Φ : St → Int32 → Prop} (h : w_X0_letters st p1 Φ) : Ct θ l yX0_letters (ws_ yX0_letters cX0_letters 4 (some Jvm.ClassFile.FieldType.int)) d [.ref (ad θ 0), .int p1] st (pI Φ, noX) := by
  refine Ct_entry hl0 e_X0_letters (Nat.le_of_ble_eq_true rfl) (fun κ hκ _ C => ?_)
  have hn : ∀ st r, Φ st r → ((pI Φ, noX) : Ph).1 st (some (.int r)) := fun st r q => ⟨r, rfl, q⟩
  change X _ _ _ _ _ [(0, .ref (ad θ 0)), (1, .int p1)] _
  unfold w_X0_letters at h
  refine X_iconst (v := 0) C dX0_letters_0 rfl ?_
  refine X_istore_n C dX0_letters_1 rfl (lo2 := [(2, _), (0, _), (1, _)]) (by decide) rfl ?_
  refine X_iconst (v := 0) C dX0_letters_2 rfl ?_
  refine X_istore_n C dX0_letters_3 rfl (lo2 := [(3, _), (2, _), (0, _), (1, _)]) (by decide) rfl ?_
  refine X_sub [2, 3, 1, 0] (lo2 := [(0, _), (1, _), (2, _), (3, _)]) rfl ?_
  refine t_X0_letters_l4 hX hd C hn ?_ gFU st p1 0 0 h
  · intro s43 x2 h
    exact t_X0_letters_b45 hX hd C hn s43 x2 h

theorem nm_X0_round : yX0_round.cls ≠ "java/lang/invoke/MethodHandle" ∧ yX0_round.cls ≠ "java/lang/invoke/VarHandle" ∧ (parseMethodDescriptor yX0_round.desc).map (fun d => d.parameters.length) = some 1 := by decide +kernel
def w_X0_round_l85 (Φ : St → Int32 → Prop) (E127 : St → Prop) : Nat → St → Int32 → Int32 → Prop
  | 0, _, _, _ => False
  | n + 1, st, x1, x2 => (((sI st 2 0) ≤ x2) → E127 st) ∧ ((¬ (sI st 2 0) ≤ x2) → vp_in x2 3 ∧ vp_in x1 3 ∧ vp_in (sI st 0 46) 3 ∧ ∀ s125, s125 = putI st 147 (x2.toNatClampNeg) ((sI st 147 x2.toNatClampNeg) + (sI st (2 + (3 + 4 * x2.toNatClampNeg + x1.toNatClampNeg)) (sI st 0 46).toNatClampNeg)) → w_X0_round_l85 Φ E127 n s125 x1 (x2 + 1))
theorem t_X0_round_l85 {θ : Th} {κ : Kx} {Ph : Ph} (hX : LX θ) {d : Nat} (hd : 6 ≤ d) (C : Cx θ κ yX0_round cX0_round 3 (some Jvm.ClassFile.FieldType.int) [(0, 141, 142, 1)] d) {Φ : St → Int32 → Prop} (hn : ∀ st r, Φ st r → Ph.1 st (some (.int r))) {E127 : St → Prop} (hE127 : ∀ (st : St), E127 st → X θ κ Ph st 127 [(0, .ref (ad θ 0))] []) : ∀ (n : Nat) (st : St) (x1 : Int32) (x2 : Int32), w_X0_round_l85 Φ E127 n st x1 x2 → X θ κ Ph st 85 [(0, .ref (ad θ 0)), (1, .int x1), (2, .int x2)] [] := by
  intro n
  induction n with
  | zero => intro st x1 x2 h; exact h.elim
  | succ n hK85 =>
    intro st x1 x2 h
    rw [w_X0_round_l85] at h
    refine X_iload_n C dX0_round_85 rfl 2 rfl ?_
    refine X_aload_n C dX0_round_86 rfl 0 rfl (isRV_r _) ?_
    refine X_getF (ci := 0) (j := 1) (q := (RX0, TX0, 49)) C rfl (by decide) q261 rfl dX0_round_87 (b := 2) (LX_S hX (k := 0) rfl) (LX_F hX (k := 0) (j := 1) rfl) rfl ?_
    refine X_getNS (ci := 1) (j := 0) (q := (RX1, TX1, 10)) C rfl (by decide) q189 rfl dX0_round_90 (LH_0 (LX_H2 hX)) (v := .int (sI st 2 0)) rfl ?_
    refine X_icmp_ge (tgt := 127) C dX0_round_93 (by decide) (fun c121 => ?_) (fun c121 => ?_)
    · have h := h.1 c121
      refine X_sub [0] (lo2 := [(0, _)]) rfl ?_
      exact hE127 st h
    · have h := h.2 c121
      refine X_aload_n C dX0_round_96 rfl 0 rfl (isRV_r _) ?_
      refine X_getF (ci := 0) (j := 45) (q := (RX0, TX0, 49)) C rfl (by decide) q305 rfl dX0_round_97 (b := 147) (LX_S hX (k := 0) rfl) (LX_F hX (k := 0) (j := 45) rfl) rfl ?_
      refine X_iload_n C dX0_round_100 rfl 2 rfl ?_
      refine X_dup2 C dX0_round_101 rfl rfl ?_
      have g122 := h.1
      have h := h.2
      refine X_ialdS C (LX_S hX (k := 147) rfl) (LX_L hX (k := 147) rfl) g122 rfl dX0_round_102 ?_
      refine X_aload_n C dX0_round_103 rfl 0 rfl (isRV_r _) ?_
      refine X_getF (ci := 0) (j := 1) (q := (RX0, TX0, 49)) C rfl (by decide) q261 rfl dX0_round_104 (b := 2) (LX_S hX (k := 0) rfl) (LX_F hX (k := 0) (j := 1) rfl) rfl ?_
      refine X_getNF (ci := 1) (j := 5) (q := (RX1, TX1, 10)) C rfl (by decide) q199 rfl dX0_round_107 (b := (2 + 1)) (LH_0 (LX_H2 hX)) (LH_F (LX_H2 hX) (k := 0) (j := 5) rfl) rfl ?_
      refine X_iload_n C dX0_round_110 rfl 2 rfl ?_
      refine X_aaldF C 7 rfl (LH_S (LX_H2 hX) (k := 1) rfl) (by decide) rfl (LH_L (LX_H2 hX) (k := 1) rfl) g122 rfl (b := (2 + (2 + 4 * x2.toNatClampNeg))) (LHf_sub (LX_H2 hX) (i := x2.toNatClampNeg) (in_lt g122)).2.2 dX0_round_111 rfl ?_
      refine X_iload_n C dX0_round_112 rfl 1 rfl ?_
      have g123 := h.1
      have h := h.2
      refine X_aaldF C 6 rfl (LHf_sub (LX_H2 hX) (i := x2.toNatClampNeg) (in_lt g122)).1 (by decide) rfl (LHf_sub (LX_H2 hX) (i := x2.toNatClampNeg) (in_lt g122)).2.1 g123 rfl (b := (2 + (3 + 4 * x2.toNatClampNeg + x1.toNatClampNeg))) (LHf_game (LX_H2 hX) (i := x2.toNatClampNeg) (j := x1.toNatClampNeg) (in_lt g122) (in_lt g123)).2.2 dX0_round_113 rfl ?_
      refine X_aload_n C dX0_round_114 rfl 0 rfl (isRV_r _) ?_
      refine X_getS (ci := 0) (j := 46) (q := (RX0, TX0, 49)) C rfl (by decide) q306 rfl dX0_round_115 (LX_S hX (k := 0) rfl) (v := .int (sI st 0 46)) rfl ?_
      have g124 := h.1
      have h := h.2
      refine X_ialdS C (LHf_game (LX_H2 hX) (i := x2.toNatClampNeg) (j := x1.toNatClampNeg) (in_lt g122) (in_lt g123)).1 (LHf_game (LX_H2 hX) (i := x2.toNatClampNeg) (j := x1.toNatClampNeg) (in_lt g122) (in_lt g123)).2.1 g124 rfl dX0_round_118 ?_
      refine X_iadd C dX0_round_119 ?_
      refine X_iastS C (LX_S hX (k := 147) rfl) (LX_L hX (k := 147) rfl) g122 rfl dX0_round_120 ?_
      refine X_nm (fun s125 e126 => ?_)
      have h := h s125 e126
      refine X_iinc (v := (x2 + 1)) C (j := 2) dX0_round_121 rfl rfl (lo2 := [(2, _), (0, _), (1, _)]) (by decide) rfl ?_
      refine X_goto (tgt := 85) C dX0_round_124 (by decide) ?_
      refine X_sub [1, 2, 0] (lo2 := [(0, _), (1, _), (2, _)]) rfl ?_
      exact hK85 s125 x1 (x2 + 1) h
def w_X0_round_b127 (Φ : St → Int32 → Prop) (st : St) : Prop := ∀ s128, s128 = putI st 0 44 ((sI st 0 44) + 1) → Φ s128 (sI s128 0 46)
theorem t_X0_round_b127 {θ : Th} {κ : Kx} {Ph : Ph} (hX : LX θ) {d : Nat} (hd : 6 ≤ d) (C : Cx θ κ yX0_round cX0_round 3 (some Jvm.ClassFile.FieldType.int) [(0, 141, 142, 1)] d) {Φ : St → Int32 → Prop} (hn : ∀ st r, Φ st r → Ph.1 st (some (.int r))) (st : St) (h : w_X0_round_b127 Φ st) : X θ κ Ph st 127 [(0, .ref (ad θ 0))] [] := by
  unfold w_X0_round_b127 at h
  refine X_aload_n C dX0_round_127 rfl 0 rfl (isRV_r _) ?_
  refine X_dup C dX0_round_128 rfl ?_
  refine X_getS (ci := 0) (j := 44) (q := (RX0, TX0, 49)) C rfl (by decide) q304 rfl dX0_round_129 (LX_S hX (k := 0) rfl) (v := .int (sI st 0 44)) rfl ?_
  refine X_iconst (v := 1) C dX0_round_132 rfl ?_
  refine X_iadd C dX0_round_133 ?_
  refine X_putSI (ci := 0) (j := 44) (q := (RX0, TX0, 49)) C rfl (by decide) q304 rfl rfl dX0_round_134 (LX_S hX (k := 0) rfl) rfl rfl rfl ?_
  refine X_nm (fun s128 e129 => ?_)
  have h := h s128 e129
  refine X_aload_n C dX0_round_137 rfl 0 rfl (isRV_r _) ?_
  refine X_getS (ci := 0) (j := 46) (q := (RX0, TX0, 49)) C rfl (by decide) q306 rfl dX0_round_138 (LX_S hX (k := 0) rfl) (v := .int (sI s128 0 46)) rfl ?_
  exact X_iret C rfl dX0_round_141 (hn s128 _ h)
def w_X0_round_b80 (Φ : St → Int32 → Prop) (st : St) (x1 : Int32) (z0 : Int32) : Prop := ∀ s119, s119 = putI st 0 46 z0 → w_X0_round_l85 Φ (fun (s127 : St) => w_X0_round_b127 Φ s127) gFU s119 x1 0
theorem t_X0_round_b80 {θ : Th} {κ : Kx} {Ph : Ph} (hX : LX θ) {d : Nat} (hd : 6 ≤ d) (C : Cx θ κ yX0_round cX0_round 3 (some Jvm.ClassFile.FieldType.int) [(0, 141, 142, 1)] d) {Φ : St → Int32 → Prop} (hn : ∀ st r, Φ st r → Ph.1 st (some (.int r))) (st : St) (x1 : Int32) (z0 : Int32) (h : w_X0_round_b80 Φ st x1 z0) : X θ κ Ph st 80 [(0, .ref (ad θ 0)), (1, .int x1)] [.int z0, .ref (ad θ 0)] := by
  unfold w_X0_round_b80 at h
  refine X_putSI (ci := 0) (j := 46) (q := (RX0, TX0, 49)) C rfl (by decide) q306 rfl rfl dX0_round_80 (LX_S hX (k := 0) rfl) rfl rfl rfl ?_
  refine X_nm (fun s119 e120 => ?_)
  have h := h s119 e120
  refine X_iconst (v := 0) C dX0_round_83 rfl ?_
  refine X_istore_n C dX0_round_84 rfl (lo2 := [(2, _), (0, _), (1, _)]) (by decide) rfl ?_
  refine X_sub [1, 2, 0] (lo2 := [(0, _), (1, _), (2, _)]) rfl ?_
  refine t_X0_round_l85 hX hd C hn ?_ gFU s119 x1 0 h
  · intro s127 h
    exact t_X0_round_b127 hX hd C hn s127 h
def w_X0_round_b33 (Φ : St → Int32 → Prop) (st : St) (x1 : Int32) (z0 : Int32) : Prop := w_X0_need st z0 4 (fun (s51 : St) => sN s51 + 1 ≤ gCAP ∧ sS s51 + 6 ≤ gCAPS ∧ ∀ s72, s72 = mk s51 9 6 → w_X9_init s72 (sN s51) 147 (sI s72 0 6) (sI s72 0 46) (sR s72 0 47) (fun (s81 : St) => ∀ s88, s88 = putR s81 0 47 (some (sN s51)) → w_X0_allExcess s88 (fun (r90 : Int32) => ((r90 ≠ 0) → w_X0_approaches s88 (fun (s100 : St) (r99 : Int32) => w_X0_round_b80 Φ s100 x1 r99) (fun (s101 : St) (a102 : Nat) => w_X0_answers s101 a102 (fun (s106 : St) (r105 : Int32) => Φ s106 r105))) ∧ ((r90 = 0) → w_X0_round_b80 Φ s88 x1 0)))) (fun (s52 : St) (a53 : Nat) => w_X0_answers s52 a53 (fun (s57 : St) (r56 : Int32) => Φ s57 r56))
theorem t_X0_round_b33 {θ : Th} {κ : Kx} {Ph : Ph} (hX : LX θ) {d : Nat} (hd : 6 ≤ d) (C : Cx θ κ yX0_round cX0_round 3 (some Jvm.ClassFile.FieldType.int) [(0, 141, 142, 1)] d) {Φ : St → Int32 → Prop} (hn : ∀ st r, Φ st r → Ph.1 st (some (.int r))) (st : St) (x1 : Int32) (z0 : Int32) (h : w_X0_round_b33 Φ st x1 z0) : X θ κ Ph st 33 [(0, .ref (ad θ 0)), (1, .int x1)] [.int z0] := by
  unfold w_X0_round_b33 at h
  refine X_iconst (v := 4) C dX0_round_33 rfl ?_
  refine X_callS (As := [_, _]) (rest := []) C q421 q422 q132 q423 nm_X0_need rfl dX0_round_34 (m_X0_need (Cx_l C) hX (d := d - 1) (by omega) st z0 4 h) (by omega) (by decide) (Nat.le_of_ble_eq_true rfl) (fun s51 w64 hE65 hP66 => ?_) (fun s69 E67 q68 hE65 hP66 => ?_)
  rotate_left
  · rcases hP66 with ⟨rfl, a_, rfl, hb_, hs_, h⟩
    refine XT_catch C [] ⟨0, 141, 142, 1⟩ [] rfl (fun _ h => absurd h List.not_mem_nil) (by decide) (by decide) q412 q425 ?_
    refine X_astore_n C dX0_round_142 rfl (isRV_r _) (lo2 := [(2, _), (0, _), (1, _)]) (by decide) rfl ?_
    refine X_aload_n C dX0_round_143 rfl 1 rfl (isRV_r _) ?_
    refine X_aload_n C dX0_round_144 rfl 0 rfl (isRV_r _) ?_
    refine X_callVS (ci := 0) (q := (RX0, TX0, 49)) (As := [_]) (rest := []) C rfl (LX_S hX (k := 0) rfl) q512 q514 qs4 q132 q515 ⟨rfl, nm_X0_answers⟩ rfl dX0_round_145 (m_X0_answers (Cx_l C) hX (d := d - 1) (by omega) s69 a_ hs_ hb_ h) (by omega) (by decide) (Nat.le_of_ble_eq_true rfl) (fun s57 w58 hE59 hP60 => ?_) (fun s63 E61 q62 hE59 hP60 => ?_)
    rotate_left
    · exact False.elim hP60
    obtain ⟨r56, rfl, h⟩ := hP60
    refine X_tls ?_
    have hs_ := Ext_sh hE59 hs_ (by decide)
    exact X_iret C rfl dX0_round_148 (hn s57 _ h)
  obtain ⟨rfl, h⟩ := hP66
  refine X_tln ?_
  refine X_aload_n C dX0_round_37 rfl 0 rfl (isRV_r _) ?_
  have g70 := h.1
  have h := h.2
  have g71 := h.1
  have h := h.2
  refine X_new (ci := 8) (q := (RX9, TX9, 6)) C rfl q1646 q1647 q161 g70 g71 dX0_round_38 (fun hE74 => ?_)
  refine X_nm (fun s72 e73 => ?_)
  have h := h s72 e73
  rw [← e73] at hE74
  have hs75 : sh s72 (sN s51) = 9 := by rw [e73]; exact sh_mk
  have hb76 := nb_N g70
  refine X_dup C dX0_round_41 rfl ?_
  refine X_aload_n C dX0_round_42 rfl 0 rfl (isRV_r _) ?_
  refine X_getF (ci := 0) (j := 45) (q := (RX0, TX0, 49)) C rfl (by decide) q305 rfl dX0_round_43 (b := 147) (LX_S hX (k := 0) rfl) (LX_F hX (k := 0) (j := 45) rfl) rfl ?_
  refine X_aload_n C dX0_round_46 rfl 0 rfl (isRV_r _) ?_
  refine X_getS (ci := 0) (j := 6) (q := (RX0, TX0, 49)) C rfl (by decide) q266 rfl dX0_round_47 (LX_S hX (k := 0) rfl) (v := .int (sI s72 0 6)) rfl ?_
  refine X_aload_n C dX0_round_50 rfl 0 rfl (isRV_r _) ?_
  refine X_getS (ci := 0) (j := 46) (q := (RX0, TX0, 49)) C rfl (by decide) q306 rfl dX0_round_51 (LX_S hX (k := 0) rfl) (v := .int (sI s72 0 46)) rfl ?_
  refine X_aload_n C dX0_round_54 rfl 0 rfl (isRV_r _) ?_
  refine X_getS (ci := 0) (j := 47) (q := (RX0, TX0, 49)) C rfl (by decide) q307 rfl dX0_round_55 (LX_S hX (k := 0) rfl) (v := rv θ (sR s72 0 47)) rfl ?_
  refine X_shl (LX_S hX (k := 147) rfl) (by decide) (LX_L hX (k := 147) rfl) (fun hs77 hl79 hb78 => ?_)
  refine X_callI (As := [_, _, _, _]) (rest := [_, _]) C q1648 q1649 q161 q1650 rfl nm_X9_init rfl dX0_round_58 (m_X9_init (Cx_l C) hX (d := d - 1) (by omega) s72 (sN s51) 147 (sI s72 0 6) (sI s72 0 46) (sR s72 0 47) hs75 hb76 hs77 hb78 hl79 h) (by omega) (by decide) (Nat.le_of_ble_eq_true rfl) (fun s81 w82 hE83 hP84 => ?_) (fun s87 E85 q86 hE83 hP84 => ?_)
  rotate_left
  · exact False.elim hP84
  obtain ⟨rfl, h⟩ := hP84
  refine X_tln ?_
  have hs75 := Ext_sh hE83 hs75 (by decide)
  refine X_putSR (v := (some (sN s51))) (ci := 0) (j := 47) (q := (RX0, TX0, 49)) C rfl (by decide) q307 rfl rfl dX0_round_61 (LX_S hX (k := 0) rfl) (sv_R (Or.inl ⟨_, rfl⟩) _ _) (LX_N hX (k := 0) (j := 47) rfl) (nr_ref (Or.inl ⟨_, rfl⟩)).1 (nr_ref (Or.inl ⟨_, rfl⟩)).2 ?_
  refine X_nm (fun s88 e89 => ?_)
  have h := h s88 e89
  have hs75 : sh s88 (sN s51) = 9 := by rw [e89]; exact hs75
  refine X_aload_n C dX0_round_64 rfl 0 rfl (isRV_r _) ?_
  refine X_aload_n C dX0_round_65 rfl 0 rfl (isRV_r _) ?_
  refine X_callVS (ci := 0) (q := (RX0, TX0, 49)) (As := []) (rest := [_]) C rfl (LX_S hX (k := 0) rfl) q1677 q1679 qs58 q132 q1680 ⟨rfl, nm_X0_allExcess⟩ rfl dX0_round_66 (m_X0_allExcess (Cx_l C) hX (d := d - 1) (by omega) s88 h) (by omega) (by decide) (Nat.le_of_ble_eq_true rfl) (fun s96 w91 hE92 hP93 => ?_) (fun s97 E94 q95 hE92 hP93 => ?_)
  rotate_left
  · exact False.elim hP93
  obtain ⟨r90, rfl, rfl, h⟩ := hP93
  refine X_tls ?_
  refine X_if_ne (tgt := 76) C dX0_round_69 (by decide) (fun c98 => ?_) (fun c98 => ?_)
  · have h := h.1 c98
    refine X_aload_n C dX0_round_76 rfl 0 rfl (isRV_r _) ?_
    refine X_callVS (ci := 0) (q := (RX0, TX0, 49)) (As := []) (rest := [_]) C rfl (LX_S hX (k := 0) rfl) q1686 q1688 qs60 q132 q1689 ⟨rfl, nm_X0_approaches⟩ rfl dX0_round_77 (m_X0_approaches (Cx_l C) hX (d := d - 1) (by omega) s88 h) (by omega) (by decide) (Nat.le_of_ble_eq_true rfl) (fun s100 w113 hE114 hP115 => ?_) (fun s118 E116 q117 hE114 hP115 => ?_)
    rotate_left
    · rcases hP115 with ⟨rfl, a_, rfl, hb_, hs_, h⟩
      have hs75 := Ext_sh hE114 hs75 (by decide)
      refine XT_catch C [] ⟨0, 141, 142, 1⟩ [] rfl (fun _ h => absurd h List.not_mem_nil) (by decide) (by decide) q412 q425 ?_
      refine X_astore_n C dX0_round_142 rfl (isRV_r _) (lo2 := [(2, _), (0, _), (1, _)]) (by decide) rfl ?_
      refine X_aload_n C dX0_round_143 rfl 1 rfl (isRV_r _) ?_
      refine X_aload_n C dX0_round_144 rfl 0 rfl (isRV_r _) ?_
      refine X_callVS (ci := 0) (q := (RX0, TX0, 49)) (As := [_]) (rest := []) C rfl (LX_S hX (k := 0) rfl) q512 q514 qs4 q132 q515 ⟨rfl, nm_X0_answers⟩ rfl dX0_round_145 (m_X0_answers (Cx_l C) hX (d := d - 1) (by omega) s118 a_ hs_ hb_ h) (by omega) (by decide) (Nat.le_of_ble_eq_true rfl) (fun s106 w107 hE108 hP109 => ?_) (fun s112 E110 q111 hE108 hP109 => ?_)
      rotate_left
      · exact False.elim hP109
      obtain ⟨r105, rfl, h⟩ := hP109
      refine X_tls ?_
      have hs75 := Ext_sh hE108 hs75 (by decide)
      have hs_ := Ext_sh hE108 hs_ (by decide)
      exact X_iret C rfl dX0_round_148 (hn s106 _ h)
    obtain ⟨r99, rfl, h⟩ := hP115
    refine X_tls ?_
    have hs75 := Ext_sh hE114 hs75 (by decide)
    exact t_X0_round_b80 hX hd C hn s100 x1 r99 h
  · have h := h.2 c98
    refine X_iconst (v := 0) C dX0_round_72 rfl ?_
    refine X_goto (tgt := 80) C dX0_round_73 (by decide) ?_
    exact t_X0_round_b80 hX hd C hn s88 x1 0 h
def w_X0_round (st : St) (p1 : Int32) (Φ : St → Int32 → Prop) : Prop := w_X0_need st (sI st 0 43) 2 (fun (s2 : St) => w_X1_isRow 2 s2 p1 (fun (r21 : Int32) => w_X0_must s2 r21 (fun (s30 : St) => ((60 ≤ (sI s30 0 44)) → w_X0_round_b33 Φ s30 p1 0) ∧ ((¬ 60 ≤ (sI s30 0 44)) → w_X0_round_b33 Φ s30 p1 1)) (fun (s31 : St) (a32 : Nat) => w_X0_answers s31 a32 (fun (s36 : St) (r35 : Int32) => Φ s36 r35)))) (fun (s3 : St) (a4 : Nat) => w_X0_answers s3 a4 (fun (s8 : St) (r7 : Int32) => Φ s8 r7))
theorem e_X0_round : plainFor yX0_round = true := plainFor_of_name (by decide +kernel)
theorem m_X0_round {θ : Th} {l : Launch} (hl0 : l.stackTraces = false) (hX : LX θ) {d : Nat} (hd : 6 ≤ d) (st : St) (p1 : Int32) {Φ : St → Int32 → Prop} (h : w_X0_round st p1 Φ) : Ct θ l yX0_round (wsW_ yX0_round cX0_round 3 (some Jvm.ClassFile.FieldType.int) [(0, 141, 142, 1)]) d [.ref (ad θ 0), .int p1] st (pI Φ, noX) := by
  refine Ct_entryW hl0 e_X0_round (Nat.le_of_ble_eq_true rfl) (fun κ hκ _ C => ?_)
  have hn : ∀ st r, Φ st r → ((pI Φ, noX) : Ph).1 st (some (.int r)) := fun st r q => ⟨r, rfl, q⟩
  change X _ _ _ _ _ [(0, .ref (ad θ 0)), (1, .int p1)] _
  unfold w_X0_round at h
  refine X_aload_n C dX0_round_0 rfl 0 rfl (isRV_r _) ?_
  refine X_getS (ci := 0) (j := 43) (q := (RX0, TX0, 49)) C rfl (by decide) q303 rfl dX0_round_1 (LX_S hX (k := 0) rfl) (v := .int (sI st 0 43)) rfl ?_
  refine X_iconst (v := 2) C dX0_round_4 rfl ?_
  refine X_callS (As := [_, _]) (rest := []) C q421 q422 q132 q423 nm_X0_need rfl dX0_round_5 (m_X0_need (Cx_l C) hX (d := d - 1) (by omega) st (sI st 0 43) 2 h) (by omega) (by decide) (Nat.le_of_ble_eq_true rfl) (fun s2 w15 hE16 hP17 => ?_) (fun s20 E18 q19 hE16 hP17 => ?_)
  rotate_left
  · rcases hP17 with ⟨rfl, a_, rfl, hb_, hs_, h⟩
    refine XT_catch C [] ⟨0, 141, 142, 1⟩ [] rfl (fun _ h => absurd h List.not_mem_nil) (by decide) (by decide) q412 q425 ?_
    refine X_astore_n C dX0_round_142 rfl (isRV_r _) (lo2 := [(2, _), (0, _), (1, _)]) (by decide) rfl ?_
    refine X_aload_n C dX0_round_143 rfl 1 rfl (isRV_r _) ?_
    refine X_aload_n C dX0_round_144 rfl 0 rfl (isRV_r _) ?_
    refine X_callVS (ci := 0) (q := (RX0, TX0, 49)) (As := [_]) (rest := []) C rfl (LX_S hX (k := 0) rfl) q512 q514 qs4 q132 q515 ⟨rfl, nm_X0_answers⟩ rfl dX0_round_145 (m_X0_answers (Cx_l C) hX (d := d - 1) (by omega) s20 a_ hs_ hb_ h) (by omega) (by decide) (Nat.le_of_ble_eq_true rfl) (fun s8 w9 hE10 hP11 => ?_) (fun s14 E12 q13 hE10 hP11 => ?_)
    rotate_left
    · exact False.elim hP11
    obtain ⟨r7, rfl, h⟩ := hP11
    refine X_tls ?_
    have hs_ := Ext_sh hE10 hs_ (by decide)
    exact X_iret C rfl dX0_round_148 (hn s8 _ h)
  obtain ⟨rfl, h⟩ := hP17
  refine X_tln ?_
  refine X_aload_n C dX0_round_8 rfl 0 rfl (isRV_r _) ?_
  refine X_getF (ci := 0) (j := 1) (q := (RX0, TX0, 49)) C rfl (by decide) q261 rfl dX0_round_9 (b := 2) (LX_S hX (k := 0) rfl) (LX_F hX (k := 0) (j := 1) rfl) rfl ?_
  refine X_iload_n C dX0_round_12 rfl 1 rfl ?_
  refine X_callVS (ci := 1) (q := (RX1, TX1, 10)) (As := [_]) (rest := []) C rfl (LH_0 (LX_H2 hX)) q642 q643 q644 q133 q645 ⟨rfl, nm_X1_isRow⟩ rfl dX0_round_13 (m_X1_isRow (Cx_l C) (LX_H2 hX) (d := d - 1) (by omega) s2 p1 h) (by omega) (by decide) (Nat.le_of_ble_eq_true rfl) (fun s27 w22 hE23 hP24 => ?_) (fun s28 E25 q26 hE23 hP24 => ?_)
  rotate_left
  · exact False.elim hP24
  obtain ⟨r21, rfl, rfl, h⟩ := hP24
  refine X_tls ?_
  refine X_callS (As := [_]) (rest := []) C q418 q419 q132 q420 nm_X0_must rfl dX0_round_16 (m_X0_must (Cx_l C) hX (d := d - 1) (by omega) s2 r21 h) (by omega) (by decide) (Nat.le_of_ble_eq_true rfl) (fun s30 w43 hE44 hP45 => ?_) (fun s48 E46 q47 hE44 hP45 => ?_)
  rotate_left
  · rcases hP45 with ⟨rfl, a_, rfl, hb_, hs_, h⟩
    refine XT_catch C [] ⟨0, 141, 142, 1⟩ [] rfl (fun _ h => absurd h List.not_mem_nil) (by decide) (by decide) q412 q425 ?_
    refine X_astore_n C dX0_round_142 rfl (isRV_r _) (lo2 := [(2, _), (0, _), (1, _)]) (by decide) rfl ?_
    refine X_aload_n C dX0_round_143 rfl 1 rfl (isRV_r _) ?_
    refine X_aload_n C dX0_round_144 rfl 0 rfl (isRV_r _) ?_
    refine X_callVS (ci := 0) (q := (RX0, TX0, 49)) (As := [_]) (rest := []) C rfl (LX_S hX (k := 0) rfl) q512 q514 qs4 q132 q515 ⟨rfl, nm_X0_answers⟩ rfl dX0_round_145 (m_X0_answers (Cx_l C) hX (d := d - 1) (by omega) s48 a_ hs_ hb_ h) (by omega) (by decide) (Nat.le_of_ble_eq_true rfl) (fun s36 w37 hE38 hP39 => ?_) (fun s42 E40 q41 hE38 hP39 => ?_)
    rotate_left
    · exact False.elim hP39
    obtain ⟨r35, rfl, h⟩ := hP39
    refine X_tls ?_
    have hs_ := Ext_sh hE38 hs_ (by decide)
    exact X_iret C rfl dX0_round_148 (hn s36 _ h)
  obtain ⟨rfl, h⟩ := hP45
  refine X_tln ?_
  refine X_aload_n C dX0_round_19 rfl 0 rfl (isRV_r _) ?_
  refine X_getS (ci := 0) (j := 44) (q := (RX0, TX0, 49)) C rfl (by decide) q304 rfl dX0_round_20 (LX_S hX (k := 0) rfl) (v := .int (sI s30 0 44)) rfl ?_
  refine X_bipush (v := 60) C dX0_round_23 rfl ?_
  refine X_icmp_ge (tgt := 32) C dX0_round_25 (by decide) (fun c49 => ?_) (fun c49 => ?_)
  · have h := h.1 c49
    refine X_iconst (v := 0) C dX0_round_32 rfl ?_
    exact t_X0_round_b33 hX hd C hn s30 p1 0 h
  · have h := h.2 c49
    refine X_iconst (v := 1) C dX0_round_28 rfl ?_
    refine X_goto (tgt := 33) C dX0_round_29 (by decide) ?_
    exact t_X0_round_b33 hX hd C hn s30 p1 1 h

theorem nm_X0_replay : yX0_replay.cls ≠ "java/lang/invoke/MethodHandle" ∧ yX0_replay.cls ≠ "java/lang/invoke/VarHandle" ∧ (parseMethodDescriptor yX0_replay.desc).map (fun d => d.parameters.length) = some 4 := by decide +kernel
def w_X0_replay_l81 (Φ : St → Int64 → Prop) (E126 : St → Int32 → Int32 → Int64 → Prop) (E165 : St → Nat → Prop) : Nat → St → Int32 → Int32 → Int32 → Int32 → Int32 → Int64 → Int32 → Prop
  | 0, _, _, _, _, _, _, _, _ => False
  | n + 1, st, x1, x2, x3, x4, x5, x6, x8 => ((x5 ≤ x8) → E126 st x4 x5 x6) ∧ ((¬ x5 ≤ x8) → vp_in x2 5 ∧ w_X3_get st (170 + x2.toNatClampNeg) x8 (fun (s102 : St) (r101 : Int64) => vp_in x3 5 ∧ w_X3_get s102 (170 + x3.toNatClampNeg) x8 (fun (s117 : St) (r116 : Int64) => w_X0_stands s117 x1 r101 r116 (fun (s129 : St) (r128 : Int64) => ∀ v140 : Int64, v140 = (x6 + r128) → w_X0_replay_l81 Φ E126 E165 n s129 x1 x2 x3 x4 x5 v140 (x8 + 1)) (fun (s130 : St) (a131 : Nat) => E165 s130 a131)) (fun (s118 : St) (a119 : Nat) => E165 s118 a119)) (fun (s103 : St) (a104 : Nat) => E165 s103 a104))
theorem t_X0_replay_l81 {θ : Th} {κ : Kx} {Ph : Ph} (hX : LX θ) {d : Nat} (hd : 6 ≤ d) (C : Cx θ κ yX0_replay cX0_replay 9 (some Jvm.ClassFile.FieldType.long) [(0, 146, 147, 377), (0, 146, 163, 1)] d) {Φ : St → Int64 → Prop} (hn : ∀ st r, Φ st r → Ph.1 st (some (.long r))) {E126 : St → Int32 → Int32 → Int64 → Prop} {E165 : St → Nat → Prop} (hE126 : ∀ (st : St) (x4 : Int32) (x5 : Int32) (x6 : Int64), E126 st x4 x5 x6 → X θ κ Ph st 126 [(0, .ref (ad θ 0)), (4, .int x4), (5, .int x5), (6, .long x6)] []) (hE165 : ∀ (st : St) (x5 : Nat), sh st x5 = 6 → x5 < gBIG → E165 st x5 → X θ κ Ph st 165 [(0, .ref (ad θ 0)), (5, .ref (ad θ x5))] []) : ∀ (n : Nat) (st : St) (x1 : Int32) (x2 : Int32) (x3 : Int32) (x4 : Int32) (x5 : Int32) (x6 : Int64) (x8 : Int32), w_X0_replay_l81 Φ E126 E165 n st x1 x2 x3 x4 x5 x6 x8 → X θ κ Ph st 81 [(0, .ref (ad θ 0)), (1, .int x1), (2, .int x2), (3, .int x3), (4, .int x4), (5, .int x5), (6, .long x6), (8, .int x8)] [] := by
  intro n
  induction n with
  | zero => intro st x1 x2 x3 x4 x5 x6 x8 h; exact h.elim
  | succ n hK81 =>
    intro st x1 x2 x3 x4 x5 x6 x8 h
    rw [w_X0_replay_l81] at h
    refine X_iload C dX0_replay_81 7 rfl ?_
    refine X_iload C dX0_replay_83 5 rfl ?_
    refine X_icmp_ge (tgt := 126) C dX0_replay_85 (by decide) (fun c97 => ?_) (fun c97 => ?_)
    · have h := h.1 c97
      refine X_sub [0, 4, 5, 6] (lo2 := [(0, _), (4, _), (5, _), (6, _)]) rfl ?_
      exact hE126 st x4 x5 x6 h
    · have h := h.2 c97
      refine X_lload C dX0_replay_88 6 rfl ?_
      refine X_aload_n C dX0_replay_90 rfl 0 rfl (isRV_r _) ?_
      refine X_iload_n C dX0_replay_91 rfl 1 rfl ?_
      refine X_aload_n C dX0_replay_92 rfl 0 rfl (isRV_r _) ?_
      refine X_getF (ci := 0) (j := 48) (q := (RX0, TX0, 49)) C rfl (by decide) q308 rfl dX0_replay_93 (b := 148) (LX_S hX (k := 0) rfl) (LX_F hX (k := 0) (j := 48) rfl) rfl ?_
      refine X_iload_n C dX0_replay_96 rfl 2 rfl ?_
      have g98 := h.1
      have h := h.2
      refine X_aaldF C 10 rfl (LX_S hX (k := 148) rfl) (by decide) rfl (LX_L hX (k := 148) rfl) g98 rfl (b := (170 + x2.toNatClampNeg)) (LXf_sheet hX (i := x2.toNatClampNeg) (in_lt g98)).2 dX0_replay_97 rfl ?_
      refine X_iload C dX0_replay_98 7 rfl ?_
      refine X_sh (LXf_sheet hX (i := x2.toNatClampNeg) (in_lt g98)).1 (by decide) (fun hs99 hb100 => ?_)
      refine X_callVX (ci := 3) (q := (RX3, TX3, 1)) (As := [_]) (rest := [_, _, _]) C rfl hs99 q546 q547 q548 q135 q549 ⟨rfl, nm_X3_get⟩ rfl dX0_replay_100 (m_X3_get (Cx_l C) hX (d := d - 1) (by omega) st (170 + x2.toNatClampNeg) x8 hs99 hb100 h) (by omega) (by decide) (Nat.le_of_ble_eq_true rfl) (fun s102 w107 hE108 hP109 => ?_) (fun s112 E110 q111 hE108 hP109 => ?_)
      rotate_left
      · rcases hP109 with ⟨rfl, a_, rfl, hb_, hs_, h⟩
        refine XT_catch C [⟨0, 146, 147, 377⟩] ⟨0, 146, 163, 1⟩ [] rfl (List.forall_mem_cons.mpr ⟨Or.inr ⟨by decide, "java/lang/ArithmeticException", q762, by decide +kernel⟩, (fun _ h => absurd h List.not_mem_nil)⟩) (by decide) (by decide) q412 q425 ?_
        refine X_astore C dX0_replay_163 (isRV_r _) (lo2 := [(5, _), (0, _), (1, _), (2, _), (3, _), (4, _), (6, _), (8, _)]) (by decide) rfl ?_
        refine X_sub [1, 0] (lo2 := [(0, _), (5, _)]) rfl ?_
        exact hE165 s112 a_ hs_ hb_ h
      obtain ⟨r101, rfl, h⟩ := hP109
      refine X_tls ?_
      refine X_aload_n C dX0_replay_103 rfl 0 rfl (isRV_r _) ?_
      refine X_getF (ci := 0) (j := 48) (q := (RX0, TX0, 49)) C rfl (by decide) q308 rfl dX0_replay_104 (b := 148) (LX_S hX (k := 0) rfl) (LX_F hX (k := 0) (j := 48) rfl) rfl ?_
      refine X_iload_n C dX0_replay_107 rfl 3 rfl ?_
      have g113 := h.1
      have h := h.2
      refine X_aaldF C 10 rfl (LX_S hX (k := 148) rfl) (by decide) rfl (LX_L hX (k := 148) rfl) g113 rfl (b := (170 + x3.toNatClampNeg)) (LXf_sheet hX (i := x3.toNatClampNeg) (in_lt g113)).2 dX0_replay_108 rfl ?_
      refine X_iload C dX0_replay_109 7 rfl ?_
      refine X_sh (LXf_sheet hX (i := x3.toNatClampNeg) (in_lt g113)).1 (by decide) (fun hs114 hb115 => ?_)
      refine X_callVX (ci := 3) (q := (RX3, TX3, 1)) (As := [_]) (rest := [_, _, _, _]) C rfl hs114 q546 q547 q548 q135 q549 ⟨rfl, nm_X3_get⟩ rfl dX0_replay_111 (m_X3_get (Cx_l C) hX (d := d - 1) (by omega) s102 (170 + x3.toNatClampNeg) x8 hs114 hb115 h) (by omega) (by decide) (Nat.le_of_ble_eq_true rfl) (fun s117 w122 hE123 hP124 => ?_) (fun s127 E125 q126 hE123 hP124 => ?_)
      rotate_left
      · rcases hP124 with ⟨rfl, a_, rfl, hb_, hs_, h⟩
        refine XT_catch C [⟨0, 146, 147, 377⟩] ⟨0, 146, 163, 1⟩ [] rfl (List.forall_mem_cons.mpr ⟨Or.inr ⟨by decide, "java/lang/ArithmeticException", q762, by decide +kernel⟩, (fun _ h => absurd h List.not_mem_nil)⟩) (by decide) (by decide) q412 q425 ?_
        refine X_astore C dX0_replay_163 (isRV_r _) (lo2 := [(5, _), (0, _), (1, _), (2, _), (3, _), (4, _), (6, _), (8, _)]) (by decide) rfl ?_
        refine X_sub [1, 0] (lo2 := [(0, _), (5, _)]) rfl ?_
        exact hE165 s127 a_ hs_ hb_ h
      obtain ⟨r116, rfl, h⟩ := hP124
      refine X_tls ?_
      refine X_callVS (ci := 0) (q := (RX0, TX0, 49)) (As := [_, _, _]) (rest := [_]) C rfl (LX_S hX (k := 0) rfl) q1713 q1715 qs62 q132 q1716 ⟨rfl, nm_X0_stands⟩ rfl dX0_replay_114 (m_X0_stands (Cx_l C) hX (d := d - 1) (by omega) s117 x1 r101 r116 h) (by omega) (by decide) (Nat.le_of_ble_eq_true rfl) (fun s129 w134 hE135 hP136 => ?_) (fun s139 E137 q138 hE135 hP136 => ?_)
      rotate_left
      · rcases hP136 with ⟨rfl, a_, rfl, hb_, hs_, h⟩
        refine XT_catch C [⟨0, 146, 147, 377⟩] ⟨0, 146, 163, 1⟩ [] rfl (List.forall_mem_cons.mpr ⟨Or.inr ⟨by decide, "java/lang/ArithmeticException", q762, by decide +kernel⟩, (fun _ h => absurd h List.not_mem_nil)⟩) (by decide) (by decide) q412 q425 ?_
        refine X_astore C dX0_replay_163 (isRV_r _) (lo2 := [(5, _), (0, _), (1, _), (2, _), (3, _), (4, _), (6, _), (8, _)]) (by decide) rfl ?_
        refine X_sub [1, 0] (lo2 := [(0, _), (5, _)]) rfl ?_
        exact hE165 s139 a_ hs_ hb_ h
      obtain ⟨r128, rfl, h⟩ := hP136
      refine X_tls ?_
      refine X_ladd C dX0_replay_117 ?_
      refine X_topl (fun v140 e141 => ?_)
      have h := h v140 e141
      refine X_lstore C dX0_replay_118 (lo2 := [(6, _), (0, _), (1, _), (2, _), (3, _), (4, _), (5, _), (8, _)]) (by decide) rfl ?_
      refine X_iinc (v := (x8 + 1)) C (j := 7) dX0_replay_120 rfl rfl (lo2 := [(8, _), (6, _), (0, _), (1, _), (2, _), (3, _), (4, _), (5, _)]) (by decide) rfl ?_
      refine X_goto (tgt := 81) C dX0_replay_123 (by decide) ?_
      refine X_sub [2, 3, 4, 5, 6, 7, 1, 0] (lo2 := [(0, _), (1, _), (2, _), (3, _), (4, _), (5, _), (6, _), (8, _)]) rfl ?_
      exact hK81 s129 x1 x2 x3 x4 x5 v140 (x8 + 1) h
def w_X0_replay_b126 (Φ : St → Int64 → Prop) (st : St) (x4 : Int32) (x5 : Int32) (x6 : Int64) : Prop := ((x4 ≠ 0) → ((x5.toInt64 = 0) → sN st + 3 ≤ gCAP ∧ sS st + 40 ≤ gCAPS ∧ ∀ a147 b148, a147 ≤ 3 → b148 ≤ 40 → ∀ s150, s150 = jk st a147 b148 → sN s150 + 1 ≤ gCAP ∧ sS s150 + 7 ≤ gCAPS ∧ ∀ s154, s154 = mk s150 6 7 → w_X5_init s154 (sN s150) 7 (fun (s160 : St) => w_X0_answersFar s160 (sN s150) (fun (s168 : St) (r167 : Int64) => Φ s168 r167))) ∧ (¬ x5.toInt64 = 0 → Φ st (x6 - x6 / x5.toInt64 * x5.toInt64))) ∧ ((x4 = 0) → ((x5.toInt64 = 0) → sN st + 3 ≤ gCAP ∧ sS st + 40 ≤ gCAPS ∧ ∀ a179 b180, a179 ≤ 3 → b180 ≤ 40 → ∀ s182, s182 = jk st a179 b180 → sN s182 + 1 ≤ gCAP ∧ sS s182 + 7 ≤ gCAPS ∧ ∀ s186, s186 = mk s182 6 7 → w_X5_init s186 (sN s182) 7 (fun (s192 : St) => w_X0_answersFar s192 (sN s182) (fun (s200 : St) (r199 : Int64) => Φ s200 r199))) ∧ (¬ x5.toInt64 = 0 → Φ st (x6 / x5.toInt64)))
theorem t_X0_replay_b126 {θ : Th} {κ : Kx} {Ph : Ph} (hX : LX θ) {d : Nat} (hd : 6 ≤ d) (C : Cx θ κ yX0_replay cX0_replay 9 (some Jvm.ClassFile.FieldType.long) [(0, 146, 147, 377), (0, 146, 163, 1)] d) {Φ : St → Int64 → Prop} (hn : ∀ st r, Φ st r → Ph.1 st (some (.long r))) (st : St) (x4 : Int32) (x5 : Int32) (x6 : Int64) (h : w_X0_replay_b126 Φ st x4 x5 x6) : X θ κ Ph st 126 [(0, .ref (ad θ 0)), (4, .int x4), (5, .int x5), (6, .long x6)] [] := by
  unfold w_X0_replay_b126 at h
  refine X_iload C dX0_replay_126 1 rfl ?_
  refine X_if_ne (tgt := 140) C dX0_replay_128 (by decide) (fun c143 => ?_) (fun c143 => ?_)
  · have h := h.1 c143
    refine X_lload C dX0_replay_140 3 rfl ?_
    refine X_iload C dX0_replay_142 2 rfl ?_
    refine X_i2l C dX0_replay_144 ?_
    by_cases c175 : x5.toInt64 = 0
    · have h := h.1 c175
      have g145 := h.1
      have h := h.2
      have g146 := h.1
      have h := h.2
      refine X_lremZ C c175 dX0_replay_145 (Nat.le_of_ble_eq_true rfl) g145 g146 (fun a147 b148 q149 haa147 hbb148 => ?_)
      refine XT_nm (fun s150 e151 => ?_)
      have h := h a147 b148 haa147 hbb148 s150 e151
      refine XT_catch C [] ⟨0, 146, 147, 377⟩ [⟨0, 146, 163, 1⟩] rfl (fun _ h => absurd h List.not_mem_nil) (by decide) (by decide) q762 q724 ?_
      refine X_astore C dX0_replay_147 (isRV_r _) (lo2 := [(5, _), (0, _), (4, _), (6, _)]) (by decide) rfl ?_
      refine X_aload_n C dX0_replay_149 rfl 1 rfl (isRV_r _) ?_
      have g152 := h.1
      have h := h.2
      have g153 := h.1
      have h := h.2
      refine X_new (ci := 5) (q := (RX5, TX5, 7)) C rfl q412 q424 q140 g152 g153 dX0_replay_150 (fun hE156 => ?_)
      refine X_nm (fun s154 e155 => ?_)
      have h := h s154 e155
      rw [← e155] at hE156
      have hs157 : sh s154 (sN s150) = 6 := by rw [e155]; exact sh_mk
      have hb158 := nb_N g152
      refine X_dup C dX0_replay_153 rfl ?_
      refine X_bipush (v := 7) C dX0_replay_154 rfl ?_
      refine X_callI (As := [_]) (rest := [_, _]) C q479 q480 q140 q481 rfl nm_X5_init rfl dX0_replay_156 (m_X5_init (Cx_l C) hX (d := d - 1) (by omega) s154 (sN s150) 7 hs157 hb158 h) (by omega) (by decide) (Nat.le_of_ble_eq_true rfl) (fun s160 w161 hE162 hP163 => ?_) (fun s166 E164 q165 hE162 hP163 => ?_)
      rotate_left
      · exact False.elim hP163
      obtain ⟨rfl, h⟩ := hP163
      refine X_tln ?_
      have hs157 := Ext_sh hE162 hs157 (by decide)
      refine X_callVS (ci := 0) (q := (RX0, TX0, 49)) (As := [_]) (rest := []) C rfl (LX_S hX (k := 0) rfl) q745 q747 qs14 q132 q748 ⟨rfl, nm_X0_answersFar⟩ rfl dX0_replay_159 (m_X0_answersFar (Cx_l C) hX (d := d - 1) (by omega) s160 (sN s150) hs157 hb158 h) (by omega) (by decide) (Nat.le_of_ble_eq_true rfl) (fun s168 w169 hE170 hP171 => ?_) (fun s174 E172 q173 hE170 hP171 => ?_)
      rotate_left
      · exact False.elim hP171
      obtain ⟨r167, rfl, h⟩ := hP171
      refine X_tls ?_
      have hs157 := Ext_sh hE170 hs157 (by decide)
      exact X_lret C rfl dX0_replay_162 (hn s168 _ h)
    · have h := h.2 c175
      refine X_lrem C dX0_replay_145 c175 ?_
      exact X_lret C rfl dX0_replay_146 (hn st _ h)
  · have h := h.2 c143
    refine X_lload C dX0_replay_131 3 rfl ?_
    refine X_iload C dX0_replay_133 2 rfl ?_
    refine X_i2l C dX0_replay_135 ?_
    by_cases c207 : x5.toInt64 = 0
    · have h := h.1 c207
      have g177 := h.1
      have h := h.2
      have g178 := h.1
      have h := h.2
      refine X_ldivZ C c207 dX0_replay_136 (Nat.le_of_ble_eq_true rfl) g177 g178 (fun a179 b180 q181 haa179 hbb180 => ?_)
      refine XT_nm (fun s182 e183 => ?_)
      have h := h a179 b180 haa179 hbb180 s182 e183
      refine XT_catch C [] ⟨0, 146, 147, 377⟩ [⟨0, 146, 163, 1⟩] rfl (fun _ h => absurd h List.not_mem_nil) (by decide) (by decide) q762 q724 ?_
      refine X_astore C dX0_replay_147 (isRV_r _) (lo2 := [(5, _), (0, _), (4, _), (6, _)]) (by decide) rfl ?_
      refine X_aload_n C dX0_replay_149 rfl 1 rfl (isRV_r _) ?_
      have g184 := h.1
      have h := h.2
      have g185 := h.1
      have h := h.2
      refine X_new (ci := 5) (q := (RX5, TX5, 7)) C rfl q412 q424 q140 g184 g185 dX0_replay_150 (fun hE188 => ?_)
      refine X_nm (fun s186 e187 => ?_)
      have h := h s186 e187
      rw [← e187] at hE188
      have hs189 : sh s186 (sN s182) = 6 := by rw [e187]; exact sh_mk
      have hb190 := nb_N g184
      refine X_dup C dX0_replay_153 rfl ?_
      refine X_bipush (v := 7) C dX0_replay_154 rfl ?_
      refine X_callI (As := [_]) (rest := [_, _]) C q479 q480 q140 q481 rfl nm_X5_init rfl dX0_replay_156 (m_X5_init (Cx_l C) hX (d := d - 1) (by omega) s186 (sN s182) 7 hs189 hb190 h) (by omega) (by decide) (Nat.le_of_ble_eq_true rfl) (fun s192 w193 hE194 hP195 => ?_) (fun s198 E196 q197 hE194 hP195 => ?_)
      rotate_left
      · exact False.elim hP195
      obtain ⟨rfl, h⟩ := hP195
      refine X_tln ?_
      have hs189 := Ext_sh hE194 hs189 (by decide)
      refine X_callVS (ci := 0) (q := (RX0, TX0, 49)) (As := [_]) (rest := []) C rfl (LX_S hX (k := 0) rfl) q745 q747 qs14 q132 q748 ⟨rfl, nm_X0_answersFar⟩ rfl dX0_replay_159 (m_X0_answersFar (Cx_l C) hX (d := d - 1) (by omega) s192 (sN s182) hs189 hb190 h) (by omega) (by decide) (Nat.le_of_ble_eq_true rfl) (fun s200 w201 hE202 hP203 => ?_) (fun s206 E204 q205 hE202 hP203 => ?_)
      rotate_left
      · exact False.elim hP203
      obtain ⟨r199, rfl, h⟩ := hP203
      refine X_tls ?_
      have hs189 := Ext_sh hE202 hs189 (by decide)
      exact X_lret C rfl dX0_replay_162 (hn s200 _ h)
    · have h := h.2 c207
      refine X_ldiv C dX0_replay_136 c207 ?_
      refine X_goto (tgt := 146) C dX0_replay_137 (by decide) ?_
      exact X_lret C rfl dX0_replay_146 (hn st _ h)
def w_X0_replay_b71 (Φ : St → Int64 → Prop) (st : St) (x1 : Int32) (x2 : Int32) (x3 : Int32) (x4 : Int32) (x5 : Int32) (z0 : Int32) : Prop := w_X0_need st z0 3 (fun (s78 : St) => w_X0_replay_l81 Φ (fun (s142 : St) (x4 : Int32) (x5 : Int32) (x6 : Int64) => w_X0_replay_b126 Φ s142 x4 x5 x6) (fun (s208 : St) (x5 : Nat) => w_X0_answersFar s208 x5 (fun (s210 : St) (r209 : Int64) => Φ s210 r209)) gFU s78 x1 x2 x3 x4 x5 0 0) (fun (s79 : St) (a80 : Nat) => w_X0_answersFar s79 a80 (fun (s84 : St) (r83 : Int64) => Φ s84 r83))
theorem t_X0_replay_b71 {θ : Th} {κ : Kx} {Ph : Ph} (hX : LX θ) {d : Nat} (hd : 6 ≤ d) (C : Cx θ κ yX0_replay cX0_replay 9 (some Jvm.ClassFile.FieldType.long) [(0, 146, 147, 377), (0, 146, 163, 1)] d) {Φ : St → Int64 → Prop} (hn : ∀ st r, Φ st r → Ph.1 st (some (.long r))) (st : St) (x1 : Int32) (x2 : Int32) (x3 : Int32) (x4 : Int32) (x5 : Int32) (z0 : Int32) (h : w_X0_replay_b71 Φ st x1 x2 x3 x4 x5 z0) : X θ κ Ph st 71 [(0, .ref (ad θ 0)), (1, .int x1), (2, .int x2), (3, .int x3), (4, .int x4), (5, .int x5)] [.int z0] := by
  unfold w_X0_replay_b71 at h
  refine X_iconst (v := 3) C dX0_replay_71 rfl ?_
  refine X_callS (As := [_, _]) (rest := []) C q421 q422 q132 q423 nm_X0_need rfl dX0_replay_72 (m_X0_need (Cx_l C) hX (d := d - 1) (by omega) st z0 3 h) (by omega) (by decide) (Nat.le_of_ble_eq_true rfl) (fun s78 w91 hE92 hP93 => ?_) (fun s96 E94 q95 hE92 hP93 => ?_)
  rotate_left
  · rcases hP93 with ⟨rfl, a_, rfl, hb_, hs_, h⟩
    refine XT_catch C [⟨0, 146, 147, 377⟩] ⟨0, 146, 163, 1⟩ [] rfl (List.forall_mem_cons.mpr ⟨Or.inr ⟨by decide, "java/lang/ArithmeticException", q762, by decide +kernel⟩, (fun _ h => absurd h List.not_mem_nil)⟩) (by decide) (by decide) q412 q425 ?_
    refine X_astore C dX0_replay_163 (isRV_r _) (lo2 := [(5, _), (0, _), (1, _), (2, _), (3, _), (4, _)]) (by decide) rfl ?_
    refine X_aload_n C dX0_replay_165 rfl 1 rfl (isRV_r _) ?_
    refine X_aload C dX0_replay_166 0 rfl (isRV_r _) ?_
    refine X_callVS (ci := 0) (q := (RX0, TX0, 49)) (As := [_]) (rest := []) C rfl (LX_S hX (k := 0) rfl) q745 q747 qs14 q132 q748 ⟨rfl, nm_X0_answersFar⟩ rfl dX0_replay_168 (m_X0_answersFar (Cx_l C) hX (d := d - 1) (by omega) s96 a_ hs_ hb_ h) (by omega) (by decide) (Nat.le_of_ble_eq_true rfl) (fun s84 w85 hE86 hP87 => ?_) (fun s90 E88 q89 hE86 hP87 => ?_)
    rotate_left
    · exact False.elim hP87
    obtain ⟨r83, rfl, h⟩ := hP87
    refine X_tls ?_
    have hs_ := Ext_sh hE86 hs_ (by decide)
    exact X_lret C rfl dX0_replay_171 (hn s84 _ h)
  obtain ⟨rfl, h⟩ := hP93
  refine X_tln ?_
  refine X_lconst (v := 0) C dX0_replay_75 rfl ?_
  refine X_lstore C dX0_replay_76 (lo2 := [(6, _), (0, _), (1, _), (2, _), (3, _), (4, _), (5, _)]) (by decide) rfl ?_
  refine X_iconst (v := 0) C dX0_replay_78 rfl ?_
  refine X_istore C dX0_replay_79 (lo2 := [(8, _), (6, _), (0, _), (1, _), (2, _), (3, _), (4, _), (5, _)]) (by decide) rfl ?_
  refine X_sub [2, 3, 4, 5, 6, 7, 1, 0] (lo2 := [(0, _), (1, _), (2, _), (3, _), (4, _), (5, _), (6, _), (8, _)]) rfl ?_
  refine t_X0_replay_l81 hX hd C hn ?_ ?_ gFU s78 x1 x2 x3 x4 x5 0 0 h
  · intro s142 x4 x5 x6 h
    exact t_X0_replay_b126 hX hd C hn s142 x4 x5 x6 h
  · intro s208 x5 hs_x5 hb_x5 h
    refine X_aload_n C dX0_replay_165 rfl 0 rfl (isRV_r _) ?_
    refine X_aload C dX0_replay_166 1 rfl (isRV_r _) ?_
    refine X_callVS (ci := 0) (q := (RX0, TX0, 49)) (As := [_]) (rest := []) C rfl (LX_S hX (k := 0) rfl) q745 q747 qs14 q132 q748 ⟨rfl, nm_X0_answersFar⟩ rfl dX0_replay_168 (m_X0_answersFar (Cx_l C) hX (d := d - 1) (by omega) s208 x5 hs_x5 hb_x5 h) (by omega) (by decide) (Nat.le_of_ble_eq_true rfl) (fun s210 w211 hE212 hP213 => ?_) (fun s216 E214 q215 hE212 hP213 => ?_)
    rotate_left
    · exact False.elim hP213
    obtain ⟨r209, rfl, h⟩ := hP213
    refine X_tls ?_
    have hs_x5 := Ext_sh hE212 hs_x5 (by decide)
    exact X_lret C rfl dX0_replay_171 (hn s210 _ h)
def w_X0_replay_b38 (Φ : St → Int64 → Prop) (st : St) (x1 : Int32) (x2 : Int32) (x3 : Int32) (x4 : Int32) (z0 : Int32) : Prop := w_X0_must st z0 (fun (s11 : St) => vp_in x2 5 ∧ w_X3_size s11 (170 + x2.toNatClampNeg) (fun (s34 : St) (r33 : Int32) => vp_in x3 5 ∧ w_X3_size s34 (170 + x3.toNatClampNeg) (fun (s57 : St) (r56 : Int32) => ((r33 ≠ r56) → w_X0_replay_b71 Φ s57 x1 x2 x3 x4 r33 0) ∧ ((r33 = r56) → w_X0_replay_b71 Φ s57 x1 x2 x3 x4 r33 1)) (fun (s58 : St) (a59 : Nat) => w_X0_answersFar s58 a59 (fun (s63 : St) (r62 : Int64) => Φ s63 r62))) (fun (s35 : St) (a36 : Nat) => w_X0_answersFar s35 a36 (fun (s40 : St) (r39 : Int64) => Φ s40 r39))) (fun (s12 : St) (a13 : Nat) => w_X0_answersFar s12 a13 (fun (s17 : St) (r16 : Int64) => Φ s17 r16))
theorem t_X0_replay_b38 {θ : Th} {κ : Kx} {Ph : Ph} (hX : LX θ) {d : Nat} (hd : 6 ≤ d) (C : Cx θ κ yX0_replay cX0_replay 9 (some Jvm.ClassFile.FieldType.long) [(0, 146, 147, 377), (0, 146, 163, 1)] d) {Φ : St → Int64 → Prop} (hn : ∀ st r, Φ st r → Ph.1 st (some (.long r))) (st : St) (x1 : Int32) (x2 : Int32) (x3 : Int32) (x4 : Int32) (z0 : Int32) (h : w_X0_replay_b38 Φ st x1 x2 x3 x4 z0) : X θ κ Ph st 38 [(0, .ref (ad θ 0)), (1, .int x1), (2, .int x2), (3, .int x3), (4, .int x4)] [.int z0] := by
  unfold w_X0_replay_b38 at h
  refine X_callS (As := [_]) (rest := []) C q418 q419 q132 q420 nm_X0_must rfl dX0_replay_38 (m_X0_must (Cx_l C) hX (d := d - 1) (by omega) st z0 h) (by omega) (by decide) (Nat.le_of_ble_eq_true rfl) (fun s11 w24 hE25 hP26 => ?_) (fun s29 E27 q28 hE25 hP26 => ?_)
  rotate_left
  · rcases hP26 with ⟨rfl, a_, rfl, hb_, hs_, h⟩
    refine XT_catch C [⟨0, 146, 147, 377⟩] ⟨0, 146, 163, 1⟩ [] rfl (List.forall_mem_cons.mpr ⟨Or.inr ⟨by decide, "java/lang/ArithmeticException", q762, by decide +kernel⟩, (fun _ h => absurd h List.not_mem_nil)⟩) (by decide) (by decide) q412 q425 ?_
    refine X_astore C dX0_replay_163 (isRV_r _) (lo2 := [(5, _), (0, _), (1, _), (2, _), (3, _), (4, _)]) (by decide) rfl ?_
    refine X_aload_n C dX0_replay_165 rfl 1 rfl (isRV_r _) ?_
    refine X_aload C dX0_replay_166 0 rfl (isRV_r _) ?_
    refine X_callVS (ci := 0) (q := (RX0, TX0, 49)) (As := [_]) (rest := []) C rfl (LX_S hX (k := 0) rfl) q745 q747 qs14 q132 q748 ⟨rfl, nm_X0_answersFar⟩ rfl dX0_replay_168 (m_X0_answersFar (Cx_l C) hX (d := d - 1) (by omega) s29 a_ hs_ hb_ h) (by omega) (by decide) (Nat.le_of_ble_eq_true rfl) (fun s17 w18 hE19 hP20 => ?_) (fun s23 E21 q22 hE19 hP20 => ?_)
    rotate_left
    · exact False.elim hP20
    obtain ⟨r16, rfl, h⟩ := hP20
    refine X_tls ?_
    have hs_ := Ext_sh hE19 hs_ (by decide)
    exact X_lret C rfl dX0_replay_171 (hn s17 _ h)
  obtain ⟨rfl, h⟩ := hP26
  refine X_tln ?_
  refine X_aload_n C dX0_replay_41 rfl 0 rfl (isRV_r _) ?_
  refine X_getF (ci := 0) (j := 48) (q := (RX0, TX0, 49)) C rfl (by decide) q308 rfl dX0_replay_42 (b := 148) (LX_S hX (k := 0) rfl) (LX_F hX (k := 0) (j := 48) rfl) rfl ?_
  refine X_iload_n C dX0_replay_45 rfl 2 rfl ?_
  have g30 := h.1
  have h := h.2
  refine X_aaldF C 10 rfl (LX_S hX (k := 148) rfl) (by decide) rfl (LX_L hX (k := 148) rfl) g30 rfl (b := (170 + x2.toNatClampNeg)) (LXf_sheet hX (i := x2.toNatClampNeg) (in_lt g30)).2 dX0_replay_46 rfl ?_
  refine X_sh (LXf_sheet hX (i := x2.toNatClampNeg) (in_lt g30)).1 (by decide) (fun hs31 hb32 => ?_)
  refine X_callVX (ci := 3) (q := (RX3, TX3, 1)) (As := []) (rest := []) C rfl hs31 q1709 q1710 q1711 q135 q1712 ⟨rfl, nm_X3_size⟩ rfl dX0_replay_47 (m_X3_size (Cx_l C) hX (d := d - 1) (by omega) s11 (170 + x2.toNatClampNeg) hs31 hb32 h) (by omega) (by decide) (Nat.le_of_ble_eq_true rfl) (fun s34 w47 hE48 hP49 => ?_) (fun s52 E50 q51 hE48 hP49 => ?_)
  rotate_left
  · rcases hP49 with ⟨rfl, a_, rfl, hb_, hs_, h⟩
    refine XT_catch C [⟨0, 146, 147, 377⟩] ⟨0, 146, 163, 1⟩ [] rfl (List.forall_mem_cons.mpr ⟨Or.inr ⟨by decide, "java/lang/ArithmeticException", q762, by decide +kernel⟩, (fun _ h => absurd h List.not_mem_nil)⟩) (by decide) (by decide) q412 q425 ?_
    refine X_astore C dX0_replay_163 (isRV_r _) (lo2 := [(5, _), (0, _), (1, _), (2, _), (3, _), (4, _)]) (by decide) rfl ?_
    refine X_aload_n C dX0_replay_165 rfl 1 rfl (isRV_r _) ?_
    refine X_aload C dX0_replay_166 0 rfl (isRV_r _) ?_
    refine X_callVS (ci := 0) (q := (RX0, TX0, 49)) (As := [_]) (rest := []) C rfl (LX_S hX (k := 0) rfl) q745 q747 qs14 q132 q748 ⟨rfl, nm_X0_answersFar⟩ rfl dX0_replay_168 (m_X0_answersFar (Cx_l C) hX (d := d - 1) (by omega) s52 a_ hs_ hb_ h) (by omega) (by decide) (Nat.le_of_ble_eq_true rfl) (fun s40 w41 hE42 hP43 => ?_) (fun s46 E44 q45 hE42 hP43 => ?_)
    rotate_left
    · exact False.elim hP43
    obtain ⟨r39, rfl, h⟩ := hP43
    refine X_tls ?_
    have hs_ := Ext_sh hE42 hs_ (by decide)
    exact X_lret C rfl dX0_replay_171 (hn s40 _ h)
  obtain ⟨r33, rfl, h⟩ := hP49
  refine X_tls ?_
  refine X_istore C dX0_replay_50 (lo2 := [(5, _), (0, _), (1, _), (2, _), (3, _), (4, _)]) (by decide) rfl ?_
  refine X_iload C dX0_replay_52 0 rfl ?_
  refine X_aload_n C dX0_replay_54 rfl 1 rfl (isRV_r _) ?_
  refine X_getF (ci := 0) (j := 48) (q := (RX0, TX0, 49)) C rfl (by decide) q308 rfl dX0_replay_55 (b := 148) (LX_S hX (k := 0) rfl) (LX_F hX (k := 0) (j := 48) rfl) rfl ?_
  refine X_iload_n C dX0_replay_58 rfl 4 rfl ?_
  have g53 := h.1
  have h := h.2
  refine X_aaldF C 10 rfl (LX_S hX (k := 148) rfl) (by decide) rfl (LX_L hX (k := 148) rfl) g53 rfl (b := (170 + x3.toNatClampNeg)) (LXf_sheet hX (i := x3.toNatClampNeg) (in_lt g53)).2 dX0_replay_59 rfl ?_
  refine X_sh (LXf_sheet hX (i := x3.toNatClampNeg) (in_lt g53)).1 (by decide) (fun hs54 hb55 => ?_)
  refine X_callVX (ci := 3) (q := (RX3, TX3, 1)) (As := []) (rest := [_]) C rfl hs54 q1709 q1710 q1711 q135 q1712 ⟨rfl, nm_X3_size⟩ rfl dX0_replay_60 (m_X3_size (Cx_l C) hX (d := d - 1) (by omega) s34 (170 + x3.toNatClampNeg) hs54 hb55 h) (by omega) (by decide) (Nat.le_of_ble_eq_true rfl) (fun s57 w70 hE71 hP72 => ?_) (fun s75 E73 q74 hE71 hP72 => ?_)
  rotate_left
  · rcases hP72 with ⟨rfl, a_, rfl, hb_, hs_, h⟩
    refine XT_catch C [⟨0, 146, 147, 377⟩] ⟨0, 146, 163, 1⟩ [] rfl (List.forall_mem_cons.mpr ⟨Or.inr ⟨by decide, "java/lang/ArithmeticException", q762, by decide +kernel⟩, (fun _ h => absurd h List.not_mem_nil)⟩) (by decide) (by decide) q412 q425 ?_
    refine X_astore C dX0_replay_163 (isRV_r _) (lo2 := [(5, _), (0, _), (1, _), (2, _), (3, _), (4, _)]) (by decide) rfl ?_
    refine X_aload_n C dX0_replay_165 rfl 1 rfl (isRV_r _) ?_
    refine X_aload C dX0_replay_166 0 rfl (isRV_r _) ?_
    refine X_callVS (ci := 0) (q := (RX0, TX0, 49)) (As := [_]) (rest := []) C rfl (LX_S hX (k := 0) rfl) q745 q747 qs14 q132 q748 ⟨rfl, nm_X0_answersFar⟩ rfl dX0_replay_168 (m_X0_answersFar (Cx_l C) hX (d := d - 1) (by omega) s75 a_ hs_ hb_ h) (by omega) (by decide) (Nat.le_of_ble_eq_true rfl) (fun s63 w64 hE65 hP66 => ?_) (fun s69 E67 q68 hE65 hP66 => ?_)
    rotate_left
    · exact False.elim hP66
    obtain ⟨r62, rfl, h⟩ := hP66
    refine X_tls ?_
    have hs_ := Ext_sh hE65 hs_ (by decide)
    exact X_lret C rfl dX0_replay_171 (hn s63 _ h)
  obtain ⟨r56, rfl, h⟩ := hP72
  refine X_tls ?_
  refine X_icmp_ne (tgt := 70) C dX0_replay_63 (by decide) (fun c76 => ?_) (fun c76 => ?_)
  · have h := h.1 c76
    refine X_iconst (v := 0) C dX0_replay_70 rfl ?_
    refine X_sub [1, 2, 3, 4, 5, 0] (lo2 := [(0, _), (1, _), (2, _), (3, _), (4, _), (5, _)]) rfl ?_
    exact t_X0_replay_b71 hX hd C hn s57 x1 x2 x3 x4 r33 0 h
  · have h := h.2 c76
    refine X_iconst (v := 1) C dX0_replay_66 rfl ?_
    refine X_goto (tgt := 71) C dX0_replay_67 (by decide) ?_
    refine X_sub [1, 2, 3, 4, 5, 0] (lo2 := [(0, _), (1, _), (2, _), (3, _), (4, _), (5, _)]) rfl ?_
    exact t_X0_replay_b71 hX hd C hn s57 x1 x2 x3 x4 r33 1 h
def w_X0_replay_b37 (Φ : St → Int64 → Prop) (st : St) (x1 : Int32) (x2 : Int32) (x3 : Int32) (x4 : Int32) : Prop := w_X0_replay_b38 Φ st x1 x2 x3 x4 0
theorem t_X0_replay_b37 {θ : Th} {κ : Kx} {Ph : Ph} (hX : LX θ) {d : Nat} (hd : 6 ≤ d) (C : Cx θ κ yX0_replay cX0_replay 9 (some Jvm.ClassFile.FieldType.long) [(0, 146, 147, 377), (0, 146, 163, 1)] d) {Φ : St → Int64 → Prop} (hn : ∀ st r, Φ st r → Ph.1 st (some (.long r))) (st : St) (x1 : Int32) (x2 : Int32) (x3 : Int32) (x4 : Int32) (h : w_X0_replay_b37 Φ st x1 x2 x3 x4) : X θ κ Ph st 37 [(0, .ref (ad θ 0)), (1, .int x1), (2, .int x2), (3, .int x3), (4, .int x4)] [] := by
  unfold w_X0_replay_b37 at h
  refine X_iconst (v := 0) C dX0_replay_37 rfl ?_
  exact t_X0_replay_b38 hX hd C hn st x1 x2 x3 x4 0 h
def w_X0_replay (st : St) (p1 : Int32) (p2 : Int32) (p3 : Int32) (p4 : Int32) (Φ : St → Int64 → Prop) : Prop := w_X1_isState 2 st p1 (fun (r1 : Int32) => ((r1 = 0) → w_X0_replay_b37 Φ st p1 p2 p3 p4) ∧ ((¬ r1 = 0) → w_X0_isSheet p2 (fun (r217 : Int32) => ((r217 = 0) → w_X0_replay_b37 Φ st p1 p2 p3 p4) ∧ ((¬ r217 = 0) → w_X0_isSheet p3 (fun (r226 : Int32) => ((r226 = 0) → w_X0_replay_b37 Φ st p1 p2 p3 p4) ∧ ((¬ r226 = 0) → w_X0_isPart p4 (fun (r235 : Int32) => ((r235 = 0) → w_X0_replay_b37 Φ st p1 p2 p3 p4) ∧ ((¬ r235 = 0) → w_X0_replay_b38 Φ st p1 p2 p3 p4 1))))))))
theorem e_X0_replay : plainFor yX0_replay = true := plainFor_of_name (by decide +kernel)
theorem m_X0_replay {θ : Th} {l : Launch} (hl0 : l.stackTraces = false) (hX : LX θ) {d : Nat} (hd : 6 ≤ d) (st : St) (p1 : Int32) (p2 : Int32) (p3 : Int32) (p4 : Int32) {Φ : St → Int64 → Prop} (h : w_X0_replay st p1 p2 p3 p4 Φ) : Ct θ l yX0_replay (wsW_ yX0_replay cX0_replay 9 (some Jvm.ClassFile.FieldType.long) [(0, 146, 147, 377), (0, 146, 163, 1)]) d [.ref (ad θ 0), .int p1, .int p2, .int p3, .int p4] st (pL Φ, noX) := by
  refine Ct_entryW hl0 e_X0_replay (Nat.le_of_ble_eq_true rfl) (fun κ hκ _ C => ?_)
  have hn : ∀ st r, Φ st r → ((pL Φ, noX) : Ph).1 st (some (.long r)) := fun st r q => ⟨r, rfl, q⟩
  change X _ _ _ _ _ [(0, .ref (ad θ 0)), (1, .int p1), (2, .int p2), (3, .int p3), (4, .int p4)] _
  unfold w_X0_replay at h
  refine X_aload_n C dX0_replay_0 rfl 0 rfl (isRV_r _) ?_
  refine X_getF (ci := 0) (j := 1) (q := (RX0, TX0, 49)) C rfl (by decide) q261 rfl dX0_replay_1 (b := 2) (LX_S hX (k := 0) rfl) (LX_F hX (k := 0) (j := 1) rfl) rfl ?_
  refine X_iload_n C dX0_replay_4 rfl 1 rfl ?_
  refine X_callVS (ci := 1) (q := (RX1, TX1, 10)) (As := [_]) (rest := []) C rfl (LH_0 (LX_H2 hX)) q628 q629 q630 q133 q631 ⟨rfl, nm_X1_isState⟩ rfl dX0_replay_5 (m_X1_isState (Cx_l C) (LX_H2 hX) (d := d - 1) (by omega) st p1 h) (by omega) (by decide) (Nat.le_of_ble_eq_true rfl) (fun s7 w2 hE3 hP4 => ?_) (fun s8 E5 q6 hE3 hP4 => ?_)
  rotate_left
  · exact False.elim hP4
  obtain ⟨r1, rfl, rfl, h⟩ := hP4
  refine X_tls ?_
  refine X_if_eq (tgt := 37) C dX0_replay_8 (by decide) (fun c9 => ?_) (fun c9 => ?_)
  · have h := h.1 c9
    exact t_X0_replay_b37 hX hd C hn st p1 p2 p3 p4 h
  · have h := h.2 c9
    refine X_iload_n C dX0_replay_11 rfl 2 rfl ?_
    refine X_callS (As := [_]) (rest := []) C q543 q544 q132 q545 nm_X0_isSheet rfl dX0_replay_12 (m_X0_isSheet (Cx_l C) (d := d - 1) (by omega) st p2 h) (by omega) (by decide) (Nat.le_of_ble_eq_true rfl) (fun s223 w218 hE219 hP220 => ?_) (fun s224 E221 q222 hE219 hP220 => ?_)
    rotate_left
    · exact False.elim hP220
    obtain ⟨r217, rfl, rfl, h⟩ := hP220
    refine X_tls ?_
    refine X_if_eq (tgt := 37) C dX0_replay_15 (by decide) (fun c225 => ?_) (fun c225 => ?_)
    · have h := h.1 c225
      exact t_X0_replay_b37 hX hd C hn st p1 p2 p3 p4 h
    · have h := h.2 c225
      refine X_iload_n C dX0_replay_18 rfl 3 rfl ?_
      refine X_callS (As := [_]) (rest := []) C q543 q544 q132 q545 nm_X0_isSheet rfl dX0_replay_19 (m_X0_isSheet (Cx_l C) (d := d - 1) (by omega) st p3 h) (by omega) (by decide) (Nat.le_of_ble_eq_true rfl) (fun s232 w227 hE228 hP229 => ?_) (fun s233 E230 q231 hE228 hP229 => ?_)
      rotate_left
      · exact False.elim hP229
      obtain ⟨r226, rfl, rfl, h⟩ := hP229
      refine X_tls ?_
      refine X_if_eq (tgt := 37) C dX0_replay_22 (by decide) (fun c234 => ?_) (fun c234 => ?_)
      · have h := h.1 c234
        exact t_X0_replay_b37 hX hd C hn st p1 p2 p3 p4 h
      · have h := h.2 c234
        refine X_iload C dX0_replay_25 4 rfl ?_
        refine X_callS (As := [_]) (rest := []) C q658 q659 q132 q660 nm_X0_isPart rfl dX0_replay_27 (m_X0_isPart (Cx_l C) (d := d - 1) (by omega) st p4 h) (by omega) (by decide) (Nat.le_of_ble_eq_true rfl) (fun s241 w236 hE237 hP238 => ?_) (fun s242 E239 q240 hE237 hP238 => ?_)
        rotate_left
        · exact False.elim hP238
        obtain ⟨r235, rfl, rfl, h⟩ := hP238
        refine X_tls ?_
        refine X_if_eq (tgt := 37) C dX0_replay_30 (by decide) (fun c243 => ?_) (fun c243 => ?_)
        · have h := h.1 c243
          exact t_X0_replay_b37 hX hd C hn st p1 p2 p3 p4 h
        · have h := h.2 c243
          refine X_iconst (v := 1) C dX0_replay_33 rfl ?_
          refine X_goto (tgt := 38) C dX0_replay_34 (by decide) ?_
          exact t_X0_replay_b38 hX hd C hn st p1 p2 p3 p4 1 h

theorem nm_X0_put : yX0_put.cls ≠ "java/lang/invoke/MethodHandle" ∧ yX0_put.cls ≠ "java/lang/invoke/VarHandle" ∧ (parseMethodDescriptor yX0_put.desc).map (fun d => d.parameters.length) = some 3 := by decide +kernel
def w_X0_put (st : St) (p1 : Int32) (p2 : Int32) (p3 : Int64) (Φ : St → Int32 → Prop) : Prop := w_X0_isSheet p1 (fun (r1 : Int32) => w_X0_must st r1 (fun (s10 : St) => vp_in p1 5 ∧ w_X3_set s10 (170 + p1.toNatClampNeg) p2 p3 (fun (s33 : St) => Φ s33 1) (fun (s34 : St) (a35 : Nat) => w_X0_answers s34 a35 (fun (s39 : St) (r38 : Int32) => Φ s39 r38))) (fun (s11 : St) (a12 : Nat) => w_X0_answers s11 a12 (fun (s16 : St) (r15 : Int32) => Φ s16 r15)))
theorem e_X0_put : plainFor yX0_put = true := plainFor_of_name (by decide +kernel)
theorem m_X0_put {θ : Th} {l : Launch} (hl0 : l.stackTraces = false) (hX : LX θ) {d : Nat} (hd : 6 ≤ d) (st : St) (p1 : Int32) (p2 : Int32) (p3 : Int64) {Φ : St → Int32 → Prop} (h : w_X0_put st p1 p2 p3 Φ) : Ct θ l yX0_put (wsW_ yX0_put cX0_put 6 (some Jvm.ClassFile.FieldType.int) [(0, 19, 20, 1)]) d [.ref (ad θ 0), .int p1, .int p2, .long p3] st (pI Φ, noX) := by
  refine Ct_entryW hl0 e_X0_put (Nat.le_of_ble_eq_true rfl) (fun κ hκ _ C => ?_)
  have hn : ∀ st r, Φ st r → ((pI Φ, noX) : Ph).1 st (some (.int r)) := fun st r q => ⟨r, rfl, q⟩
  change X _ _ _ _ _ [(0, .ref (ad θ 0)), (1, .int p1), (2, .int p2), (3, .long p3)] _
  unfold w_X0_put at h
  refine X_iload_n C dX0_put_0 rfl 1 rfl ?_
  refine X_callS (As := [_]) (rest := []) C q543 q544 q132 q545 nm_X0_isSheet rfl dX0_put_1 (m_X0_isSheet (Cx_l C) (d := d - 1) (by omega) st p1 h) (by omega) (by decide) (Nat.le_of_ble_eq_true rfl) (fun s7 w2 hE3 hP4 => ?_) (fun s8 E5 q6 hE3 hP4 => ?_)
  rotate_left
  · exact False.elim hP4
  obtain ⟨r1, rfl, rfl, h⟩ := hP4
  refine X_tls ?_
  refine X_callS (As := [_]) (rest := []) C q418 q419 q132 q420 nm_X0_must rfl dX0_put_4 (m_X0_must (Cx_l C) hX (d := d - 1) (by omega) st r1 h) (by omega) (by decide) (Nat.le_of_ble_eq_true rfl) (fun s10 w23 hE24 hP25 => ?_) (fun s28 E26 q27 hE24 hP25 => ?_)
  rotate_left
  · rcases hP25 with ⟨rfl, a_, rfl, hb_, hs_, h⟩
    refine XT_catch C [] ⟨0, 19, 20, 1⟩ [] rfl (fun _ h => absurd h List.not_mem_nil) (by decide) (by decide) q412 q425 ?_
    refine X_astore C dX0_put_20 (isRV_r _) (lo2 := [(5, _), (0, _), (1, _), (2, _), (3, _)]) (by decide) rfl ?_
    refine X_aload_n C dX0_put_22 rfl 1 rfl (isRV_r _) ?_
    refine X_aload C dX0_put_23 0 rfl (isRV_r _) ?_
    refine X_callVS (ci := 0) (q := (RX0, TX0, 49)) (As := [_]) (rest := []) C rfl (LX_S hX (k := 0) rfl) q512 q514 qs4 q132 q515 ⟨rfl, nm_X0_answers⟩ rfl dX0_put_25 (m_X0_answers (Cx_l C) hX (d := d - 1) (by omega) s28 a_ hs_ hb_ h) (by omega) (by decide) (Nat.le_of_ble_eq_true rfl) (fun s16 w17 hE18 hP19 => ?_) (fun s22 E20 q21 hE18 hP19 => ?_)
    rotate_left
    · exact False.elim hP19
    obtain ⟨r15, rfl, h⟩ := hP19
    refine X_tls ?_
    have hs_ := Ext_sh hE18 hs_ (by decide)
    exact X_iret C rfl dX0_put_28 (hn s16 _ h)
  obtain ⟨rfl, h⟩ := hP25
  refine X_tln ?_
  refine X_aload_n C dX0_put_7 rfl 0 rfl (isRV_r _) ?_
  refine X_getF (ci := 0) (j := 48) (q := (RX0, TX0, 49)) C rfl (by decide) q308 rfl dX0_put_8 (b := 148) (LX_S hX (k := 0) rfl) (LX_F hX (k := 0) (j := 48) rfl) rfl ?_
  refine X_iload_n C dX0_put_11 rfl 1 rfl ?_
  have g29 := h.1
  have h := h.2
  refine X_aaldF C 10 rfl (LX_S hX (k := 148) rfl) (by decide) rfl (LX_L hX (k := 148) rfl) g29 rfl (b := (170 + p1.toNatClampNeg)) (LXf_sheet hX (i := p1.toNatClampNeg) (in_lt g29)).2 dX0_put_12 rfl ?_
  refine X_iload_n C dX0_put_13 rfl 2 rfl ?_
  refine X_lload_n C dX0_put_14 rfl 3 rfl ?_
  refine X_sh (LXf_sheet hX (i := p1.toNatClampNeg) (in_lt g29)).1 (by decide) (fun hs30 hb31 => ?_)
  refine X_callVX (ci := 3) (q := (RX3, TX3, 1)) (As := [_, _]) (rest := []) C rfl hs30 q1730 q1731 q1732 q135 q1733 ⟨rfl, nm_X3_set⟩ rfl dX0_put_15 (m_X3_set (Cx_l C) hX (d := d - 1) (by omega) s10 (170 + p1.toNatClampNeg) p2 p3 hs30 hb31 h) (by omega) (by decide) (Nat.le_of_ble_eq_true rfl) (fun s33 w46 hE47 hP48 => ?_) (fun s51 E49 q50 hE47 hP48 => ?_)
  rotate_left
  · rcases hP48 with ⟨rfl, a_, rfl, hb_, hs_, h⟩
    refine XT_catch C [] ⟨0, 19, 20, 1⟩ [] rfl (fun _ h => absurd h List.not_mem_nil) (by decide) (by decide) q412 q425 ?_
    refine X_astore C dX0_put_20 (isRV_r _) (lo2 := [(5, _), (0, _), (1, _), (2, _), (3, _)]) (by decide) rfl ?_
    refine X_aload_n C dX0_put_22 rfl 1 rfl (isRV_r _) ?_
    refine X_aload C dX0_put_23 0 rfl (isRV_r _) ?_
    refine X_callVS (ci := 0) (q := (RX0, TX0, 49)) (As := [_]) (rest := []) C rfl (LX_S hX (k := 0) rfl) q512 q514 qs4 q132 q515 ⟨rfl, nm_X0_answers⟩ rfl dX0_put_25 (m_X0_answers (Cx_l C) hX (d := d - 1) (by omega) s51 a_ hs_ hb_ h) (by omega) (by decide) (Nat.le_of_ble_eq_true rfl) (fun s39 w40 hE41 hP42 => ?_) (fun s45 E43 q44 hE41 hP42 => ?_)
    rotate_left
    · exact False.elim hP42
    obtain ⟨r38, rfl, h⟩ := hP42
    refine X_tls ?_
    have hs_ := Ext_sh hE41 hs_ (by decide)
    exact X_iret C rfl dX0_put_28 (hn s39 _ h)
  obtain ⟨rfl, h⟩ := hP48
  refine X_tln ?_
  refine X_iconst (v := 1) C dX0_put_18 rfl ?_
  exact X_iret C rfl dX0_put_19 (hn s33 _ h)

theorem nm_X0_number : yX0_number.cls ≠ "java/lang/invoke/MethodHandle" ∧ yX0_number.cls ≠ "java/lang/invoke/VarHandle" ∧ (parseMethodDescriptor yX0_number.desc).map (fun d => d.parameters.length) = some 2 := by decide +kernel
def w_X0_number (st : St) (p1 : Int32) (p2 : Int32) (Φ : St → Int64 → Prop) : Prop := w_X0_isSheet p1 (fun (r1 : Int32) => w_X0_must st r1 (fun (s10 : St) => vp_in p1 5 ∧ w_X3_get s10 (170 + p1.toNatClampNeg) p2 (fun (s33 : St) (r32 : Int64) => Φ s33 r32) (fun (s34 : St) (a35 : Nat) => w_X0_answersFar s34 a35 (fun (s39 : St) (r38 : Int64) => Φ s39 r38))) (fun (s11 : St) (a12 : Nat) => w_X0_answersFar s11 a12 (fun (s16 : St) (r15 : Int64) => Φ s16 r15)))
theorem e_X0_number : plainFor yX0_number = true := plainFor_of_name (by decide +kernel)
theorem m_X0_number {θ : Th} {l : Launch} (hl0 : l.stackTraces = false) (hX : LX θ) {d : Nat} (hd : 6 ≤ d) (st : St) (p1 : Int32) (p2 : Int32) {Φ : St → Int64 → Prop} (h : w_X0_number st p1 p2 Φ) : Ct θ l yX0_number (wsW_ yX0_number cX0_number 4 (some Jvm.ClassFile.FieldType.long) [(0, 17, 18, 1)]) d [.ref (ad θ 0), .int p1, .int p2] st (pL Φ, noX) := by
  refine Ct_entryW hl0 e_X0_number (Nat.le_of_ble_eq_true rfl) (fun κ hκ _ C => ?_)
  have hn : ∀ st r, Φ st r → ((pL Φ, noX) : Ph).1 st (some (.long r)) := fun st r q => ⟨r, rfl, q⟩
  change X _ _ _ _ _ [(0, .ref (ad θ 0)), (1, .int p1), (2, .int p2)] _
  unfold w_X0_number at h
  refine X_iload_n C dX0_number_0 rfl 1 rfl ?_
  refine X_callS (As := [_]) (rest := []) C q543 q544 q132 q545 nm_X0_isSheet rfl dX0_number_1 (m_X0_isSheet (Cx_l C) (d := d - 1) (by omega) st p1 h) (by omega) (by decide) (Nat.le_of_ble_eq_true rfl) (fun s7 w2 hE3 hP4 => ?_) (fun s8 E5 q6 hE3 hP4 => ?_)
  rotate_left
  · exact False.elim hP4
  obtain ⟨r1, rfl, rfl, h⟩ := hP4
  refine X_tls ?_
  refine X_callS (As := [_]) (rest := []) C q418 q419 q132 q420 nm_X0_must rfl dX0_number_4 (m_X0_must (Cx_l C) hX (d := d - 1) (by omega) st r1 h) (by omega) (by decide) (Nat.le_of_ble_eq_true rfl) (fun s10 w23 hE24 hP25 => ?_) (fun s28 E26 q27 hE24 hP25 => ?_)
  rotate_left
  · rcases hP25 with ⟨rfl, a_, rfl, hb_, hs_, h⟩
    refine XT_catch C [] ⟨0, 17, 18, 1⟩ [] rfl (fun _ h => absurd h List.not_mem_nil) (by decide) (by decide) q412 q425 ?_
    refine X_astore_n C dX0_number_18 rfl (isRV_r _) (lo2 := [(3, _), (0, _), (1, _), (2, _)]) (by decide) rfl ?_
    refine X_aload_n C dX0_number_19 rfl 1 rfl (isRV_r _) ?_
    refine X_aload_n C dX0_number_20 rfl 0 rfl (isRV_r _) ?_
    refine X_callVS (ci := 0) (q := (RX0, TX0, 49)) (As := [_]) (rest := []) C rfl (LX_S hX (k := 0) rfl) q745 q747 qs14 q132 q748 ⟨rfl, nm_X0_answersFar⟩ rfl dX0_number_21 (m_X0_answersFar (Cx_l C) hX (d := d - 1) (by omega) s28 a_ hs_ hb_ h) (by omega) (by decide) (Nat.le_of_ble_eq_true rfl) (fun s16 w17 hE18 hP19 => ?_) (fun s22 E20 q21 hE18 hP19 => ?_)
    rotate_left
    · exact False.elim hP19
    obtain ⟨r15, rfl, h⟩ := hP19
    refine X_tls ?_
    have hs_ := Ext_sh hE18 hs_ (by decide)
    exact X_lret C rfl dX0_number_24 (hn s16 _ h)
  obtain ⟨rfl, h⟩ := hP25
  refine X_tln ?_
  refine X_aload_n C dX0_number_7 rfl 0 rfl (isRV_r _) ?_
  refine X_getF (ci := 0) (j := 48) (q := (RX0, TX0, 49)) C rfl (by decide) q308 rfl dX0_number_8 (b := 148) (LX_S hX (k := 0) rfl) (LX_F hX (k := 0) (j := 48) rfl) rfl ?_
  refine X_iload_n C dX0_number_11 rfl 1 rfl ?_
  have g29 := h.1
  have h := h.2
  refine X_aaldF C 10 rfl (LX_S hX (k := 148) rfl) (by decide) rfl (LX_L hX (k := 148) rfl) g29 rfl (b := (170 + p1.toNatClampNeg)) (LXf_sheet hX (i := p1.toNatClampNeg) (in_lt g29)).2 dX0_number_12 rfl ?_
  refine X_iload_n C dX0_number_13 rfl 2 rfl ?_
  refine X_sh (LXf_sheet hX (i := p1.toNatClampNeg) (in_lt g29)).1 (by decide) (fun hs30 hb31 => ?_)
  refine X_callVX (ci := 3) (q := (RX3, TX3, 1)) (As := [_]) (rest := []) C rfl hs30 q546 q547 q548 q135 q549 ⟨rfl, nm_X3_get⟩ rfl dX0_number_14 (m_X3_get (Cx_l C) hX (d := d - 1) (by omega) s10 (170 + p1.toNatClampNeg) p2 hs30 hb31 h) (by omega) (by decide) (Nat.le_of_ble_eq_true rfl) (fun s33 w46 hE47 hP48 => ?_) (fun s51 E49 q50 hE47 hP48 => ?_)
  rotate_left
  · rcases hP48 with ⟨rfl, a_, rfl, hb_, hs_, h⟩
    refine XT_catch C [] ⟨0, 17, 18, 1⟩ [] rfl (fun _ h => absurd h List.not_mem_nil) (by decide) (by decide) q412 q425 ?_
    refine X_astore_n C dX0_number_18 rfl (isRV_r _) (lo2 := [(3, _), (0, _), (1, _), (2, _)]) (by decide) rfl ?_
    refine X_aload_n C dX0_number_19 rfl 1 rfl (isRV_r _) ?_
    refine X_aload_n C dX0_number_20 rfl 0 rfl (isRV_r _) ?_
    refine X_callVS (ci := 0) (q := (RX0, TX0, 49)) (As := [_]) (rest := []) C rfl (LX_S hX (k := 0) rfl) q745 q747 qs14 q132 q748 ⟨rfl, nm_X0_answersFar⟩ rfl dX0_number_21 (m_X0_answersFar (Cx_l C) hX (d := d - 1) (by omega) s51 a_ hs_ hb_ h) (by omega) (by decide) (Nat.le_of_ble_eq_true rfl) (fun s39 w40 hE41 hP42 => ?_) (fun s45 E43 q44 hE41 hP42 => ?_)
    rotate_left
    · exact False.elim hP42
    obtain ⟨r38, rfl, h⟩ := hP42
    refine X_tls ?_
    have hs_ := Ext_sh hE41 hs_ (by decide)
    exact X_lret C rfl dX0_number_24 (hn s39 _ h)
  obtain ⟨r32, rfl, h⟩ := hP48
  refine X_tls ?_
  exact X_lret C rfl dX0_number_17 (hn s33 _ h)

theorem nm_X0_image : yX0_image.cls ≠ "java/lang/invoke/MethodHandle" ∧ yX0_image.cls ≠ "java/lang/invoke/VarHandle" ∧ (parseMethodDescriptor yX0_image.desc).map (fun d => d.parameters.length) = some 0 := by decide +kernel
def w_X0_image (st : St) (Φ : St → Int32 → Prop) : Prop := w_X1_takes 33 2 st (fun (s2 : St) => ∀ s9, s9 = putI s2 0 5 (sI s2 0 6) → ∀ s11, s11 = putI s9 0 4 ((sI s9 0 4) + 1) → Φ s11 (sI s11 0 4))
theorem e_X0_image : plainFor yX0_image = true := plainFor_of_name (by decide +kernel)
theorem m_X0_image {θ : Th} {l : Launch} (hl0 : l.stackTraces = false) (hX : LX θ) {d : Nat} (hd : 3 ≤ d) (st : St) {Φ : St → Int32 → Prop} (h : w_X0_image st Φ) : Ct θ l yX0_image (ws_ yX0_image cX0_image 1 (some Jvm.ClassFile.FieldType.int)) d [.ref (ad θ 0)] st (pI Φ, noX) := by
  refine Ct_entry hl0 e_X0_image (Nat.le_of_ble_eq_true rfl) (fun κ hκ _ C => ?_)
  have hn : ∀ st r, Φ st r → ((pI Φ, noX) : Ph).1 st (some (.int r)) := fun st r q => ⟨r, rfl, q⟩
  change X _ _ _ _ _ [(0, .ref (ad θ 0))] _
  unfold w_X0_image at h
  refine X_aload_n C dX0_image_0 rfl 0 rfl (isRV_r _) ?_
  refine X_getF (ci := 0) (j := 2) (q := (RX0, TX0, 49)) C rfl (by decide) q262 rfl dX0_image_1 (b := 33) (LX_S hX (k := 0) rfl) (LX_F hX (k := 0) (j := 2) rfl) rfl ?_
  refine X_aload_n C dX0_image_4 rfl 0 rfl (isRV_r _) ?_
  refine X_getF (ci := 0) (j := 1) (q := (RX0, TX0, 49)) C rfl (by decide) q261 rfl dX0_image_5 (b := 2) (LX_S hX (k := 0) rfl) (LX_F hX (k := 0) (j := 1) rfl) rfl ?_
  refine X_callVS (ci := 1) (q := (RX1, TX1, 10)) (As := [_]) (rest := []) C rfl (LH_0 (LX_H33 hX)) q939 q940 q941 q133 q942 ⟨rfl, nm_X1_takes⟩ rfl dX0_image_8 (m_X1_takes (Cx_l C) (LX_H33 hX) (LX_H2 hX) (d := d - 1) (by omega) st h) (by omega) (by decide) (Nat.le_of_ble_eq_true rfl) (fun s2 w3 hE4 hP5 => ?_) (fun s8 E6 q7 hE4 hP5 => ?_)
  rotate_left
  · exact False.elim hP5
  obtain ⟨rfl, h⟩ := hP5
  refine X_tln ?_
  refine X_aload_n C dX0_image_11 rfl 0 rfl (isRV_r _) ?_
  refine X_aload_n C dX0_image_12 rfl 0 rfl (isRV_r _) ?_
  refine X_getS (ci := 0) (j := 6) (q := (RX0, TX0, 49)) C rfl (by decide) q266 rfl dX0_image_13 (LX_S hX (k := 0) rfl) (v := .int (sI s2 0 6)) rfl ?_
  refine X_putSI (ci := 0) (j := 5) (q := (RX0, TX0, 49)) C rfl (by decide) q265 rfl rfl dX0_image_16 (LX_S hX (k := 0) rfl) rfl rfl rfl ?_
  refine X_nm (fun s9 e10 => ?_)
  have h := h s9 e10
  refine X_aload_n C dX0_image_19 rfl 0 rfl (isRV_r _) ?_
  refine X_dup C dX0_image_20 rfl ?_
  refine X_getS (ci := 0) (j := 4) (q := (RX0, TX0, 49)) C rfl (by decide) q264 rfl dX0_image_21 (LX_S hX (k := 0) rfl) (v := .int (sI s9 0 4)) rfl ?_
  refine X_iconst (v := 1) C dX0_image_24 rfl ?_
  refine X_iadd C dX0_image_25 ?_
  refine X_putSI (ci := 0) (j := 4) (q := (RX0, TX0, 49)) C rfl (by decide) q264 rfl rfl dX0_image_26 (LX_S hX (k := 0) rfl) rfl rfl rfl ?_
  refine X_nm (fun s11 e12 => ?_)
  have h := h s11 e12
  refine X_aload_n C dX0_image_29 rfl 0 rfl (isRV_r _) ?_
  refine X_getS (ci := 0) (j := 4) (q := (RX0, TX0, 49)) C rfl (by decide) q264 rfl dX0_image_30 (LX_S hX (k := 0) rfl) (v := .int (sI s11 0 4)) rfl ?_
  exact X_iret C rfl dX0_image_33 (hn s11 _ h)

theorem nm_X0_restore : yX0_restore.cls ≠ "java/lang/invoke/MethodHandle" ∧ yX0_restore.cls ≠ "java/lang/invoke/VarHandle" ∧ (parseMethodDescriptor yX0_restore.desc).map (fun d => d.parameters.length) = some 0 := by decide +kernel
def w_X0_restore_b12 (Φ : St → Int32 → Prop) (st : St) (z0 : Int32) : Prop := w_X0_need st z0 2 (fun (s3 : St) => w_X1_takes 2 33 s3 (fun (s23 : St) => ∀ s30, s30 = putI s23 0 6 (sI s23 0 5) → ∀ s32, s32 = putI s30 0 43 0 → Φ s32 (sI s32 2 0))) (fun (s4 : St) (a5 : Nat) => w_X0_answers s4 a5 (fun (s9 : St) (r8 : Int32) => Φ s9 r8))
theorem t_X0_restore_b12 {θ : Th} {κ : Kx} {Ph : Ph} (hX : LX θ) {d : Nat} (hd : 5 ≤ d) (C : Cx θ κ yX0_restore cX0_restore 2 (some Jvm.ClassFile.FieldType.int) [(0, 47, 48, 1)] d) {Φ : St → Int32 → Prop} (hn : ∀ st r, Φ st r → Ph.1 st (some (.int r))) (st : St) (z0 : Int32) (h : w_X0_restore_b12 Φ st z0) : X θ κ Ph st 12 [(0, .ref (ad θ 0))] [.int z0] := by
  unfold w_X0_restore_b12 at h
  refine X_iconst (v := 2) C dX0_restore_12 rfl ?_
  refine X_callS (As := [_, _]) (rest := []) C q421 q422 q132 q423 nm_X0_need rfl dX0_restore_13 (m_X0_need (Cx_l C) hX (d := d - 1) (by omega) st z0 2 h) (by omega) (by decide) (Nat.le_of_ble_eq_true rfl) (fun s3 w16 hE17 hP18 => ?_) (fun s21 E19 q20 hE17 hP18 => ?_)
  rotate_left
  · rcases hP18 with ⟨rfl, a_, rfl, hb_, hs_, h⟩
    refine XT_catch C [] ⟨0, 47, 48, 1⟩ [] rfl (fun _ h => absurd h List.not_mem_nil) (by decide) (by decide) q412 q425 ?_
    refine X_astore_n C dX0_restore_48 rfl (isRV_r _) (lo2 := [(1, _), (0, _)]) (by decide) rfl ?_
    refine X_aload_n C dX0_restore_49 rfl 1 rfl (isRV_r _) ?_
    refine X_aload_n C dX0_restore_50 rfl 0 rfl (isRV_r _) ?_
    refine X_callVS (ci := 0) (q := (RX0, TX0, 49)) (As := [_]) (rest := []) C rfl (LX_S hX (k := 0) rfl) q512 q514 qs4 q132 q515 ⟨rfl, nm_X0_answers⟩ rfl dX0_restore_51 (m_X0_answers (Cx_l C) hX (d := d - 1) (by omega) s21 a_ hs_ hb_ h) (by omega) (by decide) (Nat.le_of_ble_eq_true rfl) (fun s9 w10 hE11 hP12 => ?_) (fun s15 E13 q14 hE11 hP12 => ?_)
    rotate_left
    · exact False.elim hP12
    obtain ⟨r8, rfl, h⟩ := hP12
    refine X_tls ?_
    have hs_ := Ext_sh hE11 hs_ (by decide)
    exact X_iret C rfl dX0_restore_54 (hn s9 _ h)
  obtain ⟨rfl, h⟩ := hP18
  refine X_tln ?_
  refine X_aload_n C dX0_restore_16 rfl 0 rfl (isRV_r _) ?_
  refine X_getF (ci := 0) (j := 1) (q := (RX0, TX0, 49)) C rfl (by decide) q261 rfl dX0_restore_17 (b := 2) (LX_S hX (k := 0) rfl) (LX_F hX (k := 0) (j := 1) rfl) rfl ?_
  refine X_aload_n C dX0_restore_20 rfl 0 rfl (isRV_r _) ?_
  refine X_getF (ci := 0) (j := 2) (q := (RX0, TX0, 49)) C rfl (by decide) q262 rfl dX0_restore_21 (b := 33) (LX_S hX (k := 0) rfl) (LX_F hX (k := 0) (j := 2) rfl) rfl ?_
  refine X_callVS (ci := 1) (q := (RX1, TX1, 10)) (As := [_]) (rest := []) C rfl (LH_0 (LX_H2 hX)) q939 q940 q941 q133 q942 ⟨rfl, nm_X1_takes⟩ rfl dX0_restore_24 (m_X1_takes (Cx_l C) (LX_H2 hX) (LX_H33 hX) (d := d - 1) (by omega) s3 h) (by omega) (by decide) (Nat.le_of_ble_eq_true rfl) (fun s23 w24 hE25 hP26 => ?_) (fun s29 E27 q28 hE25 hP26 => ?_)
  rotate_left
  · exact False.elim hP26
  obtain ⟨rfl, h⟩ := hP26
  refine X_tln ?_
  refine X_aload_n C dX0_restore_27 rfl 0 rfl (isRV_r _) ?_
  refine X_aload_n C dX0_restore_28 rfl 0 rfl (isRV_r _) ?_
  refine X_getS (ci := 0) (j := 5) (q := (RX0, TX0, 49)) C rfl (by decide) q265 rfl dX0_restore_29 (LX_S hX (k := 0) rfl) (v := .int (sI s23 0 5)) rfl ?_
  refine X_putSI (ci := 0) (j := 6) (q := (RX0, TX0, 49)) C rfl (by decide) q266 rfl rfl dX0_restore_32 (LX_S hX (k := 0) rfl) rfl rfl rfl ?_
  refine X_nm (fun s30 e31 => ?_)
  have h := h s30 e31
  refine X_aload_n C dX0_restore_35 rfl 0 rfl (isRV_r _) ?_
  refine X_iconst (v := 0) C dX0_restore_36 rfl ?_
  refine X_putSI (ci := 0) (j := 43) (q := (RX0, TX0, 49)) C rfl (by decide) q303 rfl rfl dX0_restore_37 (LX_S hX (k := 0) rfl) rfl rfl rfl ?_
  refine X_nm (fun s32 e33 => ?_)
  have h := h s32 e33
  refine X_aload_n C dX0_restore_40 rfl 0 rfl (isRV_r _) ?_
  refine X_getF (ci := 0) (j := 1) (q := (RX0, TX0, 49)) C rfl (by decide) q261 rfl dX0_restore_41 (b := 2) (LX_S hX (k := 0) rfl) (LX_F hX (k := 0) (j := 1) rfl) rfl ?_
  refine X_getNS (ci := 1) (j := 0) (q := (RX1, TX1, 10)) C rfl (by decide) q189 rfl dX0_restore_44 (LH_0 (LX_H2 hX)) (v := .int (sI s32 2 0)) rfl ?_
  exact X_iret C rfl dX0_restore_47 (hn s32 _ h)
def w_X0_restore (st : St) (Φ : St → Int32 → Prop) : Prop := (((sI st 0 4) ≤ 0) → w_X0_restore_b12 Φ st 0) ∧ ((¬ (sI st 0 4) ≤ 0) → w_X0_restore_b12 Φ st 1)
theorem e_X0_restore : plainFor yX0_restore = true := plainFor_of_name (by decide +kernel)
theorem m_X0_restore {θ : Th} {l : Launch} (hl0 : l.stackTraces = false) (hX : LX θ) {d : Nat} (hd : 5 ≤ d) (st : St) {Φ : St → Int32 → Prop} (h : w_X0_restore st Φ) : Ct θ l yX0_restore (wsW_ yX0_restore cX0_restore 2 (some Jvm.ClassFile.FieldType.int) [(0, 47, 48, 1)]) d [.ref (ad θ 0)] st (pI Φ, noX) := by
  refine Ct_entryW hl0 e_X0_restore (Nat.le_of_ble_eq_true rfl) (fun κ hκ _ C => ?_)
  have hn : ∀ st r, Φ st r → ((pI Φ, noX) : Ph).1 st (some (.int r)) := fun st r q => ⟨r, rfl, q⟩
  change X _ _ _ _ _ [(0, .ref (ad θ 0))] _
  unfold w_X0_restore at h
  refine X_aload_n C dX0_restore_0 rfl 0 rfl (isRV_r _) ?_
  refine X_getS (ci := 0) (j := 4) (q := (RX0, TX0, 49)) C rfl (by decide) q264 rfl dX0_restore_1 (LX_S hX (k := 0) rfl) (v := .int (sI st 0 4)) rfl ?_
  refine X_if_le (tgt := 11) C dX0_restore_4 (by decide) (fun c1 => ?_) (fun c1 => ?_)
  · have h := h.1 c1
    refine X_iconst (v := 0) C dX0_restore_11 rfl ?_
    exact t_X0_restore_b12 hX hd C hn st 0 h
  · have h := h.2 c1
    refine X_iconst (v := 1) C dX0_restore_7 rfl ?_
    refine X_goto (tgt := 12) C dX0_restore_8 (by decide) ?_
    exact t_X0_restore_b12 hX hd C hn st 1 h

theorem nm_X0_count : yX0_count.cls ≠ "java/lang/invoke/MethodHandle" ∧ yX0_count.cls ≠ "java/lang/invoke/VarHandle" ∧ (parseMethodDescriptor yX0_count.desc).map (fun d => d.parameters.length) = some 1 := by decide +kernel
def w_X0_count (st : St) (p1 : Int32) (Φ : St → Int32 → Prop) : Prop := w_X0_in p1.toInt64 0 7 (fun (r1 : Int32) => w_X0_must st r1 (fun (s10 : St) => (p1 = 0 → Φ s10 (sI s10 2 0)) ∧ (p1 = 1 → Φ s10 (sI s10 2 1)) ∧ (p1 = 2 → Φ s10 (sI s10 2 2)) ∧ (p1 = 3 → Φ s10 (sI s10 2 3)) ∧ (p1 = 4 → Φ s10 (sI s10 2 4)) ∧ (p1 = 5 → Φ s10 (sI s10 0 33)) ∧ (p1 = 6 → ∃ r35, (sR s10 0 42) = some r35 ∧ (sh s10 r35 = 10 ∨ (sh s10 r35 = 11 ∧ r35 < gBIG)) ∧ (sh s10 r35 = 10 → w_J6_length s10 r35 (fun (r39 : Int32) => Φ s10 r39)) ∧ (sh s10 r35 = 11 → r35 < gBIG → w_J11_length s10 r35 (fun (r47 : Int32) => Φ s10 r47))) ∧ (p1.toInt < 0 ∨ 6 < p1.toInt → Φ s10 (sI s10 0 6))) (fun (s11 : St) (a12 : Nat) => w_X0_answers s11 a12 (fun (s16 : St) (r15 : Int32) => Φ s16 r15)))
theorem e_X0_count : plainFor yX0_count = true := plainFor_of_name (by decide +kernel)
theorem m_X0_count {θ : Th} {l : Launch} (hl0 : l.stackTraces = false) (hX : LX θ) {d : Nat} (hd : 6 ≤ d) (st : St) (p1 : Int32) {Φ : St → Int32 → Prop} (h : w_X0_count st p1 Φ) : Ct θ l yX0_count (wsW_ yX0_count cX0_count 3 (some Jvm.ClassFile.FieldType.int) [(0, 129, 130, 1)]) d [.ref (ad θ 0), .int p1] st (pI Φ, noX) := by
  refine Ct_entryW hl0 e_X0_count (Nat.le_of_ble_eq_true rfl) (fun κ hκ _ C => ?_)
  have hn : ∀ st r, Φ st r → ((pI Φ, noX) : Ph).1 st (some (.int r)) := fun st r q => ⟨r, rfl, q⟩
  change X _ _ _ _ _ [(0, .ref (ad θ 0)), (1, .int p1)] _
  unfold w_X0_count at h
  refine X_iload_n C dX0_count_0 rfl 1 rfl ?_
  refine X_i2l C dX0_count_1 ?_
  refine X_lconst (v := 0) C dX0_count_2 rfl ?_
  refine X_ldc2 C q1754 dX0_count_3 ?_
  refine X_callS (As := [_, _, _]) (rest := []) C q415 q416 q132 q417 nm_X0_in rfl dX0_count_6 (m_X0_in (Cx_l C) (d := d - 1) (by omega) st p1.toInt64 0 7 h) (by omega) (by decide) (Nat.le_of_ble_eq_true rfl) (fun s7 w2 hE3 hP4 => ?_) (fun s8 E5 q6 hE3 hP4 => ?_)
  rotate_left
  · exact False.elim hP4
  obtain ⟨r1, rfl, rfl, h⟩ := hP4
  refine X_tls ?_
  refine X_callS (As := [_]) (rest := []) C q418 q419 q132 q420 nm_X0_must rfl dX0_count_9 (m_X0_must (Cx_l C) hX (d := d - 1) (by omega) st r1 h) (by omega) (by decide) (Nat.le_of_ble_eq_true rfl) (fun s10 w23 hE24 hP25 => ?_) (fun s28 E26 q27 hE24 hP25 => ?_)
  rotate_left
  · rcases hP25 with ⟨rfl, a_, rfl, hb_, hs_, h⟩
    refine XT_catch C [] ⟨0, 129, 130, 1⟩ [] rfl (fun _ h => absurd h List.not_mem_nil) (by decide) (by decide) q412 q425 ?_
    refine X_astore_n C dX0_count_130 rfl (isRV_r _) (lo2 := [(2, _), (0, _), (1, _)]) (by decide) rfl ?_
    refine X_aload_n C dX0_count_131 rfl 1 rfl (isRV_r _) ?_
    refine X_aload_n C dX0_count_132 rfl 0 rfl (isRV_r _) ?_
    refine X_callVS (ci := 0) (q := (RX0, TX0, 49)) (As := [_]) (rest := []) C rfl (LX_S hX (k := 0) rfl) q512 q514 qs4 q132 q515 ⟨rfl, nm_X0_answers⟩ rfl dX0_count_133 (m_X0_answers (Cx_l C) hX (d := d - 1) (by omega) s28 a_ hs_ hb_ h) (by omega) (by decide) (Nat.le_of_ble_eq_true rfl) (fun s16 w17 hE18 hP19 => ?_) (fun s22 E20 q21 hE18 hP19 => ?_)
    rotate_left
    · exact False.elim hP19
    obtain ⟨r15, rfl, h⟩ := hP19
    refine X_tls ?_
    have hs_ := Ext_sh hE18 hs_ (by decide)
    exact X_iret C rfl dX0_count_136 (hn s16 _ h)
  obtain ⟨rfl, h⟩ := hP25
  refine X_tln ?_
  refine X_iload_n C dX0_count_12 rfl 1 rfl ?_
  by_cases c29 : p1 = 0
  · have h := h.1 c29
    refine X_tableIn (tgt := 56) C dX0_count_13 (by rw [c29]; decide) (by rw [c29]; decide) (off := 43) (by rw [c29]; rfl) (by decide) ?_
    refine X_aload_n C dX0_count_56 rfl 0 rfl (isRV_r _) ?_
    refine X_getF (ci := 0) (j := 1) (q := (RX0, TX0, 49)) C rfl (by decide) q261 rfl dX0_count_57 (b := 2) (LX_S hX (k := 0) rfl) (LX_F hX (k := 0) (j := 1) rfl) rfl ?_
    refine X_getNS (ci := 1) (j := 0) (q := (RX1, TX1, 10)) C rfl (by decide) q189 rfl dX0_count_60 (LH_0 (LX_H2 hX)) (v := .int (sI s10 2 0)) rfl ?_
    refine X_goto (tgt := 129) C dX0_count_63 (by decide) ?_
    exact X_iret C rfl dX0_count_129 (hn s10 _ h)
  have h := h.2
  by_cases c30 : p1 = 1
  · have h := h.1 c30
    refine X_tableIn (tgt := 66) C dX0_count_13 (by rw [c30]; decide) (by rw [c30]; decide) (off := 53) (by rw [c30]; rfl) (by decide) ?_
    refine X_aload_n C dX0_count_66 rfl 0 rfl (isRV_r _) ?_
    refine X_getF (ci := 0) (j := 1) (q := (RX0, TX0, 49)) C rfl (by decide) q261 rfl dX0_count_67 (b := 2) (LX_S hX (k := 0) rfl) (LX_F hX (k := 0) (j := 1) rfl) rfl ?_
    refine X_getNS (ci := 1) (j := 1) (q := (RX1, TX1, 10)) C rfl (by decide) q191 rfl dX0_count_70 (LH_0 (LX_H2 hX)) (v := .int (sI s10 2 1)) rfl ?_
    refine X_goto (tgt := 129) C dX0_count_73 (by decide) ?_
    exact X_iret C rfl dX0_count_129 (hn s10 _ h)
  have h := h.2
  by_cases c31 : p1 = 2
  · have h := h.1 c31
    refine X_tableIn (tgt := 76) C dX0_count_13 (by rw [c31]; decide) (by rw [c31]; decide) (off := 63) (by rw [c31]; rfl) (by decide) ?_
    refine X_aload_n C dX0_count_76 rfl 0 rfl (isRV_r _) ?_
    refine X_getF (ci := 0) (j := 1) (q := (RX0, TX0, 49)) C rfl (by decide) q261 rfl dX0_count_77 (b := 2) (LX_S hX (k := 0) rfl) (LX_F hX (k := 0) (j := 1) rfl) rfl ?_
    refine X_getNS (ci := 1) (j := 2) (q := (RX1, TX1, 10)) C rfl (by decide) q193 rfl dX0_count_80 (LH_0 (LX_H2 hX)) (v := .int (sI s10 2 2)) rfl ?_
    refine X_goto (tgt := 129) C dX0_count_83 (by decide) ?_
    exact X_iret C rfl dX0_count_129 (hn s10 _ h)
  have h := h.2
  by_cases c32 : p1 = 3
  · have h := h.1 c32
    refine X_tableIn (tgt := 86) C dX0_count_13 (by rw [c32]; decide) (by rw [c32]; decide) (off := 73) (by rw [c32]; rfl) (by decide) ?_
    refine X_aload_n C dX0_count_86 rfl 0 rfl (isRV_r _) ?_
    refine X_getF (ci := 0) (j := 1) (q := (RX0, TX0, 49)) C rfl (by decide) q261 rfl dX0_count_87 (b := 2) (LX_S hX (k := 0) rfl) (LX_F hX (k := 0) (j := 1) rfl) rfl ?_
    refine X_getNS (ci := 1) (j := 3) (q := (RX1, TX1, 10)) C rfl (by decide) q195 rfl dX0_count_90 (LH_0 (LX_H2 hX)) (v := .int (sI s10 2 3)) rfl ?_
    refine X_goto (tgt := 129) C dX0_count_93 (by decide) ?_
    exact X_iret C rfl dX0_count_129 (hn s10 _ h)
  have h := h.2
  by_cases c33 : p1 = 4
  · have h := h.1 c33
    refine X_tableIn (tgt := 96) C dX0_count_13 (by rw [c33]; decide) (by rw [c33]; decide) (off := 83) (by rw [c33]; rfl) (by decide) ?_
    refine X_aload_n C dX0_count_96 rfl 0 rfl (isRV_r _) ?_
    refine X_getF (ci := 0) (j := 1) (q := (RX0, TX0, 49)) C rfl (by decide) q261 rfl dX0_count_97 (b := 2) (LX_S hX (k := 0) rfl) (LX_F hX (k := 0) (j := 1) rfl) rfl ?_
    refine X_getNS (ci := 1) (j := 4) (q := (RX1, TX1, 10)) C rfl (by decide) q197 rfl dX0_count_100 (LH_0 (LX_H2 hX)) (v := .int (sI s10 2 4)) rfl ?_
    refine X_goto (tgt := 129) C dX0_count_103 (by decide) ?_
    exact X_iret C rfl dX0_count_129 (hn s10 _ h)
  have h := h.2
  by_cases c34 : p1 = 5
  · have h := h.1 c34
    refine X_tableIn (tgt := 106) C dX0_count_13 (by rw [c34]; decide) (by rw [c34]; decide) (off := 93) (by rw [c34]; rfl) (by decide) ?_
    refine X_aload_n C dX0_count_106 rfl 0 rfl (isRV_r _) ?_
    refine X_getS (ci := 0) (j := 33) (q := (RX0, TX0, 49)) C rfl (by decide) q293 rfl dX0_count_107 (LX_S hX (k := 0) rfl) (v := .int (sI s10 0 33)) rfl ?_
    refine X_goto (tgt := 129) C dX0_count_110 (by decide) ?_
    exact X_iret C rfl dX0_count_129 (hn s10 _ h)
  have h := h.2
  by_cases c55 : p1 = 6
  · have h := h.1 c55
    refine X_tableIn (tgt := 113) C dX0_count_13 (by rw [c55]; decide) (by rw [c55]; decide) (off := 100) (by rw [c55]; rfl) (by decide) ?_
    refine X_aload_n C dX0_count_113 rfl 0 rfl (isRV_r _) ?_
    refine X_getS (ci := 0) (j := 42) (q := (RX0, TX0, 49)) C rfl (by decide) q302 rfl dX0_count_114 (LX_S hX (k := 0) rfl) (v := rv θ (sR s10 0 42)) rfl ?_
    obtain ⟨r35, q36, hg_, h1_, h2_⟩ := h
    rw [q36]
    refine X_tor ?_
    rcases hg_ with hs37 | ⟨hs37, hb38⟩
    · have h := h1_ hs37
      refine X_callF (ci := 9) (q := (RJ6, TJ6, 4)) (As := []) (rest := []) C rfl hs37 (by simp [gIF]; try decide) q1592 q1596 q1380 q144 q1382 nmF_19 rfl dX0_count_117 (m_J6_length (Cx_l C) hX (d := d - 1) (by omega) s10 r35 hs37 h) (by omega) (by decide) (Nat.le_of_ble_eq_true rfl) (fun s45 w40 hE41 hP42 => ?_) (fun s46 E43 q44 hE41 hP42 => ?_)
      rotate_left
      · exact False.elim hP42
      obtain ⟨r39, rfl, rfl, h⟩ := hP42
      refine X_tls ?_
      refine X_goto (tgt := 129) C dX0_count_122 (by decide) ?_
      exact X_iret C rfl dX0_count_129 (hn s10 _ h)
    · have h := h2_ hs37 hb38
      refine X_callF (ci := 10) (q := (RJ11, TJ11, 4)) (As := []) (rest := []) C rfl hs37 (by simp [gIF]; try decide) q1592 q1600 q1107 q151 q1108 nmF_19 rfl dX0_count_117 (m_J11_length (Cx_l C) hX (d := d - 1) (by omega) s10 r35 hs37 hb38 h) (by omega) (by decide) (Nat.le_of_ble_eq_true rfl) (fun s53 w48 hE49 hP50 => ?_) (fun s54 E51 q52 hE49 hP50 => ?_)
      rotate_left
      · exact False.elim hP50
      obtain ⟨r47, rfl, rfl, h⟩ := hP50
      refine X_tls ?_
      refine X_goto (tgt := 129) C dX0_count_122 (by decide) ?_
      exact X_iret C rfl dX0_count_129 (hn s10 _ h)
  have h := h.2
  have c56 : p1.toInt < 0 ∨ 6 < p1.toInt := by
    have qc29 := ne_toInt c29
    have qc30 := ne_toInt c30
    have qc31 := ne_toInt c31
    have qc32 := ne_toInt c32
    have qc33 := ne_toInt c33
    have qc34 := ne_toInt c34
    have qc55 := ne_toInt c55
    simp only [Int32.reduceToInt] at qc29 qc30 qc31 qc32 qc33 qc34 qc55
    omega
  refine X_tableOut (tgt := 125) C dX0_count_13 c56 (by decide) ?_
  have h := h c56
  refine X_aload_n C dX0_count_125 rfl 0 rfl (isRV_r _) ?_
  refine X_getS (ci := 0) (j := 6) (q := (RX0, TX0, 49)) C rfl (by decide) q266 rfl dX0_count_126 (LX_S hX (k := 0) rfl) (v := .int (sI s10 0 6)) rfl ?_
  exact X_iret C rfl dX0_count_129 (hn s10 _ h)

theorem nm_X4_isWord : yX4_isWord.cls ≠ "java/lang/invoke/MethodHandle" ∧ yX4_isWord.cls ≠ "java/lang/invoke/VarHandle" ∧ (parseMethodDescriptor yX4_isWord.desc).map (fun d => d.parameters.length) = some 1 := by decide +kernel
def w_X4_isWord_b68 (Φ : Int32 → Prop) (K32 : St → Nat → Int32 → Int32 → Prop) (st0 : St) (x1 : Nat) (x3 : Int32) (z0 : Int32) : Prop := K32 st0 x1 z0 (x3 + 1)
theorem t_X4_isWord_b68 {θ : Th} {κ : Kx} {Ph : Ph} (hX : LX θ) {st0 : St} {d : Nat} (hd : 4 ≤ d) (C : Cx θ κ yX4_isWord cX4_isWord 4 (some Jvm.ClassFile.FieldType.boolean) [] d) {Φ : Int32 → Prop} (hn : ∀ r, Φ r → Ph.1 st0 (some (.int r))) {K32 : St → Nat → Int32 → Int32 → Prop} (hK32 : ∀ (x1 : Nat) (x2 : Int32) (x3 : Int32), sh st0 x1 = 10 → K32 st0 x1 x2 x3 → X θ κ Ph st0 32 [(0, .ref (ad θ 175)), (1, .ref (ad θ x1)), (2, .int x2), (3, .int x3)] []) (x1 : Nat) (x3 : Int32) (z0 : Int32) (hs_x1 : sh st0 x1 = 10) (h : w_X4_isWord_b68 Φ K32 st0 x1 x3 z0) : X θ κ Ph st0 68 [(0, .ref (ad θ 175)), (1, .ref (ad θ x1)), (3, .int x3)] [.int z0] := by
  unfold w_X4_isWord_b68 at h
  refine X_istore_n C dX4_isWord_68 rfl (lo2 := [(2, _), (0, _), (1, _), (3, _)]) (by decide) rfl ?_
  refine X_iinc (v := (x3 + 1)) C (j := 3) dX4_isWord_69 rfl rfl (lo2 := [(3, _), (2, _), (0, _), (1, _)]) (by decide) rfl ?_
  refine X_goto (tgt := 32) C dX4_isWord_72 (by decide) ?_
  refine X_sub [2, 3, 1, 0] (lo2 := [(0, _), (1, _), (2, _), (3, _)]) rfl ?_
  exact hK32 x1 z0 (x3 + 1) hs_x1 h
def w_X4_isWord_l32 (Φ : Int32 → Prop) (E75 : St → Int32 → Prop) : Nat → St → Nat → Int32 → Int32 → Prop
  | 0, _, _, _, _ => False
  | n + 1, st0, x1, x2, x3 => w_J6_length st0 x1 (fun (r2 : Int32) => ((r2 ≤ x3) → E75 st0 x2) ∧ ((¬ r2 ≤ x3) → ((x2 = 0) → E75 st0 x2) ∧ ((¬ x2 = 0) → vp_in ((sI st0 175 51) + x3) 200 ∧ w_J6_charAt st0 x1 x3 (fun (r13 : Int32) => (((sI st0 182 ((sI st0 175 51) + x3).toNatClampNeg) ≠ r13) → w_X4_isWord_b68 Φ (w_X4_isWord_l32 Φ E75 n) st0 x1 x3 0) ∧ (((sI st0 182 ((sI st0 175 51) + x3).toNatClampNeg) = r13) → w_X4_isWord_b68 Φ (w_X4_isWord_l32 Φ E75 n) st0 x1 x3 1)))))
theorem t_X4_isWord_l32 {θ : Th} {κ : Kx} {Ph : Ph} (hX : LX θ) {st0 : St} {d : Nat} (hd : 4 ≤ d) (C : Cx θ κ yX4_isWord cX4_isWord 4 (some Jvm.ClassFile.FieldType.boolean) [] d) {Φ : Int32 → Prop} (hn : ∀ r, Φ r → Ph.1 st0 (some (.int r))) {E75 : St → Int32 → Prop} (hE75 : ∀ (x2 : Int32), E75 st0 x2 → X θ κ Ph st0 75 [(2, .int x2)] []) : ∀ (n : Nat) (x1 : Nat) (x2 : Int32) (x3 : Int32), sh st0 x1 = 10 → w_X4_isWord_l32 Φ E75 n st0 x1 x2 x3 → X θ κ Ph st0 32 [(0, .ref (ad θ 175)), (1, .ref (ad θ x1)), (2, .int x2), (3, .int x3)] [] := by
  intro n
  induction n with
  | zero => intro x1 x2 x3 hs_x1 h; exact h.elim
  | succ n hK32 =>
    intro x1 x2 x3 hs_x1 h
    rw [w_X4_isWord_l32] at h
    refine X_iload_n C dX4_isWord_32 rfl 3 rfl ?_
    refine X_aload_n C dX4_isWord_33 rfl 1 rfl (isRV_r _) ?_
    refine X_callV (ci := 9) (q := (RJ6, TJ6, 4)) (As := []) (rest := [_]) C rfl hs_x1 q2250 q1380 q1381 q144 q1382 ⟨rfl, nm_J6_length⟩ rfl dX4_isWord_34 (m_J6_length (Cx_l C) hX (d := d - 1) (by omega) st0 x1 hs_x1 h) (by omega) (by decide) (Nat.le_of_ble_eq_true rfl) (fun s8 w3 hE4 hP5 => ?_) (fun s9 E6 q7 hE4 hP5 => ?_)
    rotate_left
    · exact False.elim hP5
    obtain ⟨r2, rfl, rfl, h⟩ := hP5
    refine X_tls ?_
    refine X_icmp_ge (tgt := 75) C dX4_isWord_37 (by decide) (fun c10 => ?_) (fun c10 => ?_)
    · have h := h.1 c10
      refine X_sub [2] (lo2 := [(2, _)]) rfl ?_
      exact hE75 x2 h
    · have h := h.2 c10
      refine X_iload_n C dX4_isWord_40 rfl 2 rfl ?_
      refine X_if_eq (tgt := 75) C dX4_isWord_41 (by decide) (fun c11 => ?_) (fun c11 => ?_)
      · have h := h.1 c11
        refine X_sub [2] (lo2 := [(2, _)]) rfl ?_
        exact hE75 x2 h
      · have h := h.2 c11
        refine X_aload_n C dX4_isWord_44 rfl 0 rfl (isRV_r _) ?_
        refine X_getF (ci := 4) (j := 9) (q := (RX4, TX4, 54)) C rfl (by decide) q1775 rfl dX4_isWord_45 (b := 182) (LX_S hX (k := 175) rfl) (LX_F hX (k := 175) (j := 9) rfl) rfl ?_
        refine X_aload_n C dX4_isWord_48 rfl 0 rfl (isRV_r _) ?_
        refine X_getS (ci := 4) (j := 51) (q := (RX4, TX4, 54)) C rfl (by decide) q1817 rfl dX4_isWord_49 (LX_S hX (k := 175) rfl) (v := .int (sI st0 175 51)) rfl ?_
        refine X_iload_n C dX4_isWord_52 rfl 3 rfl ?_
        refine X_iadd C dX4_isWord_53 ?_
        have g12 := h.1
        have h := h.2
        refine X_ialdS C (LX_S hX (k := 182) rfl) (LX_L hX (k := 182) rfl) g12 rfl dX4_isWord_54 ?_
        refine X_aload_n C dX4_isWord_55 rfl 1 rfl (isRV_r _) ?_
        refine X_iload_n C dX4_isWord_56 rfl 3 rfl ?_
        refine X_callV (ci := 9) (q := (RJ6, TJ6, 4)) (As := [_]) (rest := [_]) C rfl hs_x1 q2251 q1613 q2441 q144 q1615 ⟨rfl, nm_J6_charAt⟩ rfl dX4_isWord_57 (m_J6_charAt (Cx_l C) hX (d := d - 1) (by omega) st0 x1 x3 hs_x1 h) (by omega) (by decide) (Nat.le_of_ble_eq_true rfl) (fun s19 w14 hE15 hP16 => ?_) (fun s20 E17 q18 hE15 hP16 => ?_)
        rotate_left
        · exact False.elim hP16
        obtain ⟨r13, rfl, rfl, h⟩ := hP16
        refine X_tls ?_
        refine X_icmp_ne (tgt := 67) C dX4_isWord_60 (by decide) (fun c21 => ?_) (fun c21 => ?_)
        · have h := h.1 c21
          refine X_iconst (v := 0) C dX4_isWord_67 rfl ?_
          refine X_sub [0, 1, 3] (lo2 := [(0, _), (1, _), (3, _)]) rfl ?_
          exact t_X4_isWord_b68 hX hd C hn hK32 x1 x3 0 hs_x1 h
        · have h := h.2 c21
          refine X_iconst (v := 1) C dX4_isWord_63 rfl ?_
          refine X_goto (tgt := 68) C dX4_isWord_64 (by decide) ?_
          refine X_sub [0, 1, 3] (lo2 := [(0, _), (1, _), (3, _)]) rfl ?_
          exact t_X4_isWord_b68 hX hd C hn hK32 x1 x3 1 hs_x1 h
def w_X4_isWord_b75 (Φ : Int32 → Prop) (st0 : St) (x2 : Int32) : Prop := (x2 = 0 ∨ x2 = 1) ∧ Φ x2
theorem t_X4_isWord_b75 {θ : Th} {κ : Kx} {Ph : Ph} (hX : LX θ) {st0 : St} {d : Nat} (hd : 4 ≤ d) (C : Cx θ κ yX4_isWord cX4_isWord 4 (some Jvm.ClassFile.FieldType.boolean) [] d) {Φ : Int32 → Prop} (hn : ∀ r, Φ r → Ph.1 st0 (some (.int r))) (x2 : Int32) (h : w_X4_isWord_b75 Φ st0 x2) : X θ κ Ph st0 75 [(2, .int x2)] [] := by
  unfold w_X4_isWord_b75 at h
  refine X_iload_n C dX4_isWord_75 rfl 0 rfl ?_
  have g22 := h.1
  have h := h.2
  exact X_zret C rfl (nb_01 g22).1 dX4_isWord_76 (hn _ h)
def w_X4_isWord_b29 (Φ : Int32 → Prop) (st0 : St) (x1 : Nat) (z0 : Int32) : Prop := w_X4_isWord_l32 Φ (fun (_ : St) (x2 : Int32) => w_X4_isWord_b75 Φ st0 x2) gFU st0 x1 z0 0
theorem t_X4_isWord_b29 {θ : Th} {κ : Kx} {Ph : Ph} (hX : LX θ) {st0 : St} {d : Nat} (hd : 4 ≤ d) (C : Cx θ κ yX4_isWord cX4_isWord 4 (some Jvm.ClassFile.FieldType.boolean) [] d) {Φ : Int32 → Prop} (hn : ∀ r, Φ r → Ph.1 st0 (some (.int r))) (x1 : Nat) (z0 : Int32) (hs_x1 : sh st0 x1 = 10) (h : w_X4_isWord_b29 Φ st0 x1 z0) : X θ κ Ph st0 29 [(0, .ref (ad θ 175)), (1, .ref (ad θ x1))] [.int z0] := by
  unfold w_X4_isWord_b29 at h
  refine X_istore_n C dX4_isWord_29 rfl (lo2 := [(2, _), (0, _), (1, _)]) (by decide) rfl ?_
  refine X_iconst (v := 0) C dX4_isWord_30 rfl ?_
  refine X_istore_n C dX4_isWord_31 rfl (lo2 := [(3, _), (2, _), (0, _), (1, _)]) (by decide) rfl ?_
  refine X_sub [2, 3, 1, 0] (lo2 := [(0, _), (1, _), (2, _), (3, _)]) rfl ?_
  refine t_X4_isWord_l32 hX hd C hn ?_ gFU x1 z0 0 hs_x1 h
  · intro x2 h
    exact t_X4_isWord_b75 hX hd C hn x2 h
def w_X4_isWord_b28 (Φ : Int32 → Prop) (st0 : St) (x1 : Nat) : Prop := w_X4_isWord_b29 Φ st0 x1 0
theorem t_X4_isWord_b28 {θ : Th} {κ : Kx} {Ph : Ph} (hX : LX θ) {st0 : St} {d : Nat} (hd : 4 ≤ d) (C : Cx θ κ yX4_isWord cX4_isWord 4 (some Jvm.ClassFile.FieldType.boolean) [] d) {Φ : Int32 → Prop} (hn : ∀ r, Φ r → Ph.1 st0 (some (.int r))) (x1 : Nat) (hs_x1 : sh st0 x1 = 10) (h : w_X4_isWord_b28 Φ st0 x1) : X θ κ Ph st0 28 [(0, .ref (ad θ 175)), (1, .ref (ad θ x1))] [] := by
  unfold w_X4_isWord_b28 at h
  refine X_iconst (v := 0) C dX4_isWord_28 rfl ?_
  exact t_X4_isWord_b29 hX hd C hn x1 0 hs_x1 h
def w_X4_isWord (st0 : St) (p1 : Nat) (Φ : Int32 → Prop) : Prop := (((sI st0 175 48) ≠ 1) → w_X4_isWord_b28 Φ st0 p1) ∧ (((sI st0 175 48) = 1) → w_J6_length st0 p1 (fun (r23 : Int32) => ((((sI st0 175 52) - (sI st0 175 51)) ≠ r23) → w_X4_isWord_b28 Φ st0 p1) ∧ ((((sI st0 175 52) - (sI st0 175 51)) = r23) → w_X4_isWord_b29 Φ st0 p1 1)))
theorem e_X4_isWord : plainFor yX4_isWord = true := plainFor_of_name (by decide +kernel)
theorem m_X4_isWord {θ : Th} {l : Launch} (hl0 : l.stackTraces = false) (hX : LX θ) {d : Nat} (hd : 4 ≤ d) (st0 : St) (p1 : Nat) (hs_p1 : sh st0 p1 = 10) {Φ : Int32 → Prop} (h : w_X4_isWord st0 p1 Φ) : Ct θ l yX4_isWord (ws_ yX4_isWord cX4_isWord 4 (some Jvm.ClassFile.FieldType.boolean)) d [.ref (ad θ 175), .ref (ad θ p1)] st0 (rI st0 Φ, noX) := by
  refine Ct_entry hl0 e_X4_isWord (Nat.le_of_ble_eq_true rfl) (fun κ hκ _ C => ?_)
  have hn : ∀ r, Φ r → ((rI st0 Φ, noX) : Ph).1 st0 (some (.int r)) := fun r q => ⟨r, rfl, rfl, q⟩
  change X _ _ _ _ _ [(0, .ref (ad θ 175)), (1, .ref (ad θ p1))] _
  unfold w_X4_isWord at h
  refine X_aload_n C dX4_isWord_0 rfl 0 rfl (isRV_r _) ?_
  refine X_getS (ci := 4) (j := 48) (q := (RX4, TX4, 54)) C rfl (by decide) q1814 rfl dX4_isWord_1 (LX_S hX (k := 175) rfl) (v := .int (sI st0 175 48)) rfl ?_
  refine X_iconst (v := 1) C dX4_isWord_4 rfl ?_
  refine X_icmp_ne (tgt := 28) C dX4_isWord_5 (by decide) (fun c1 => ?_) (fun c1 => ?_)
  · have h := h.1 c1
    exact t_X4_isWord_b28 hX hd C hn p1 hs_p1 h
  · have h := h.2 c1
    refine X_aload_n C dX4_isWord_8 rfl 0 rfl (isRV_r _) ?_
    refine X_getS (ci := 4) (j := 52) (q := (RX4, TX4, 54)) C rfl (by decide) q1818 rfl dX4_isWord_9 (LX_S hX (k := 175) rfl) (v := .int (sI st0 175 52)) rfl ?_
    refine X_aload_n C dX4_isWord_12 rfl 0 rfl (isRV_r _) ?_
    refine X_getS (ci := 4) (j := 51) (q := (RX4, TX4, 54)) C rfl (by decide) q1817 rfl dX4_isWord_13 (LX_S hX (k := 175) rfl) (v := .int (sI st0 175 51)) rfl ?_
    refine X_isub C dX4_isWord_16 ?_
    refine X_aload_n C dX4_isWord_17 rfl 1 rfl (isRV_r _) ?_
    refine X_callV (ci := 9) (q := (RJ6, TJ6, 4)) (As := []) (rest := [_]) C rfl hs_p1 q2250 q1380 q1381 q144 q1382 ⟨rfl, nm_J6_length⟩ rfl dX4_isWord_18 (m_J6_length (Cx_l C) hX (d := d - 1) (by omega) st0 p1 hs_p1 h) (by omega) (by decide) (Nat.le_of_ble_eq_true rfl) (fun s29 w24 hE25 hP26 => ?_) (fun s30 E27 q28 hE25 hP26 => ?_)
    rotate_left
    · exact False.elim hP26
    obtain ⟨r23, rfl, rfl, h⟩ := hP26
    refine X_tls ?_
    refine X_icmp_ne (tgt := 28) C dX4_isWord_21 (by decide) (fun c31 => ?_) (fun c31 => ?_)
    · have h := h.1 c31
      exact t_X4_isWord_b28 hX hd C hn p1 hs_p1 h
    · have h := h.2 c31
      refine X_iconst (v := 1) C dX4_isWord_24 rfl ?_
      refine X_goto (tgt := 29) C dX4_isWord_25 (by decide) ?_
      exact t_X4_isWord_b29 hX hd C hn p1 1 hs_p1 h

theorem nm_X4_isSplitting : yX4_isSplitting.cls ≠ "java/lang/invoke/MethodHandle" ∧ yX4_isSplitting.cls ≠ "java/lang/invoke/VarHandle" ∧ (parseMethodDescriptor yX4_isSplitting.desc).map (fun d => d.parameters.length) = some 3 := by decide +kernel
def w_X4_isSplitting_l8 (Φ : St → Int32 → Prop) (E31 : St → Int32 → Prop) : Nat → St → Int32 → Nat → Int32 → Prop
  | 0, _, _, _, _ => False
  | n + 1, st, x1, x2, x4 => ((3 ≤ x4) → E31 st x1) ∧ ((¬ 3 ≤ x4) → vp_in x4 3 ∧ ∀ s5, s5 = putI st 197 (x4.toNatClampNeg) (sI st x2 x4.toNatClampNeg) → w_X4_isSplitting_l8 Φ E31 n s5 x1 x2 (x4 + 1))
theorem t_X4_isSplitting_l8 {θ : Th} {κ : Kx} {Ph : Ph} (hX : LX θ) {d : Nat} (hd : 4 ≤ d) (C : Cx θ κ yX4_isSplitting cX4_isSplitting 5 (some Jvm.ClassFile.FieldType.boolean) [] d) {Φ : St → Int32 → Prop} (hn : ∀ st r, Φ st r → Ph.1 st (some (.int r))) {E31 : St → Int32 → Prop} (hE31 : ∀ (st : St) (x1 : Int32), E31 st x1 → X θ κ Ph st 31 [(0, .ref (ad θ 175)), (1, .int x1)] []) : ∀ (n : Nat) (st : St) (x1 : Int32) (x2 : Nat) (x4 : Int32), sh st x2 = 101 → x2 < gBIG → ln st x2 = 3 → w_X4_isSplitting_l8 Φ E31 n st x1 x2 x4 → X θ κ Ph st 8 [(0, .ref (ad θ 175)), (1, .int x1), (2, .ref (ad θ x2)), (4, .int x4)] [] := by
  intro n
  induction n with
  | zero => intro st x1 x2 x4 hs_x2 hb_x2 hl_x2 h; exact h.elim
  | succ n hK8 =>
    intro st x1 x2 x4 hs_x2 hb_x2 hl_x2 h
    rw [w_X4_isSplitting_l8] at h
    refine X_iload C dX4_isSplitting_8 3 rfl ?_
    refine X_iconst (v := 3) C dX4_isSplitting_10 rfl ?_
    refine X_icmp_ge (tgt := 31) C dX4_isSplitting_11 (by decide) (fun c3 => ?_) (fun c3 => ?_)
    · have h := h.1 c3
      refine X_sub [0, 1] (lo2 := [(0, _), (1, _)]) rfl ?_
      exact hE31 st x1 h
    · have h := h.2 c3
      refine X_aload_n C dX4_isSplitting_14 rfl 0 rfl (isRV_r _) ?_
      refine X_getF (ci := 4) (j := 35) (q := (RX4, TX4, 54)) C rfl (by decide) q1801 rfl dX4_isSplitting_15 (b := 197) (LX_S hX (k := 175) rfl) (LX_F hX (k := 175) (j := 35) rfl) rfl ?_
      refine X_iload C dX4_isSplitting_18 3 rfl ?_
      refine X_aload_n C dX4_isSplitting_20 rfl 2 rfl (isRV_r _) ?_
      refine X_iload C dX4_isSplitting_21 3 rfl ?_
      have g4 := h.1
      have h := h.2
      refine X_ialdD C hs_x2 hl_x2 g4 rfl dX4_isSplitting_23 ?_
      refine X_iastS C (LX_S hX (k := 197) rfl) (LX_L hX (k := 197) rfl) g4 rfl dX4_isSplitting_24 ?_
      refine X_nm (fun s5 e6 => ?_)
      have h := h s5 e6
      have hs_x2 : sh s5 x2 = 101 := by rw [e6]; exact hs_x2
      have hl_x2 : ln s5 x2 = 3 := by rw [e6]; exact hl_x2
      refine X_iinc (v := (x4 + 1)) C (j := 3) dX4_isSplitting_25 rfl rfl (lo2 := [(4, _), (0, _), (1, _), (2, _)]) (by decide) rfl ?_
      refine X_goto (tgt := 8) C dX4_isSplitting_28 (by decide) ?_
      refine X_sub [1, 2, 3, 0] (lo2 := [(0, _), (1, _), (2, _), (4, _)]) rfl ?_
      exact hK8 s5 x1 x2 (x4 + 1) hs_x2 hb_x2 hl_x2 h
def w_X4_isSplitting_b31 (Φ : St → Int32 → Prop) (st : St) (x1 : Int32) : Prop := w_X4_weighs st x1 (fun (s9 : St) (r8 : Int32) => ((r8 = 0) → Φ s9 0) ∧ ((¬ r8 = 0) → w_X4_areAbove s9 1 (fun (r17 : Int32) => ((r17 = 0) → Φ s9 0) ∧ ((¬ r17 = 0) → Φ s9 1))))
theorem t_X4_isSplitting_b31 {θ : Th} {κ : Kx} {Ph : Ph} (hX : LX θ) {d : Nat} (hd : 4 ≤ d) (C : Cx θ κ yX4_isSplitting cX4_isSplitting 5 (some Jvm.ClassFile.FieldType.boolean) [] d) {Φ : St → Int32 → Prop} (hn : ∀ st r, Φ st r → Ph.1 st (some (.int r))) (st : St) (x1 : Int32) (h : w_X4_isSplitting_b31 Φ st x1) : X θ κ Ph st 31 [(0, .ref (ad θ 175)), (1, .int x1)] [] := by
  unfold w_X4_isSplitting_b31 at h
  refine X_aload_n C dX4_isSplitting_31 rfl 0 rfl (isRV_r _) ?_
  refine X_iload_n C dX4_isSplitting_32 rfl 1 rfl ?_
  refine X_callVS (ci := 4) (q := (RX4, TX4, 54)) (As := [_]) (rest := []) C rfl (LX_S hX (k := 175) rfl) q2116 q2118 qs87 q136 q2119 ⟨rfl, nm_X4_weighs⟩ rfl dX4_isSplitting_33 (m_X4_weighs (Cx_l C) hX (d := d - 1) (by omega) st x1 h) (by omega) (by decide) (Nat.le_of_ble_eq_true rfl) (fun s9 w10 hE11 hP12 => ?_) (fun s15 E13 q14 hE11 hP12 => ?_)
  rotate_left
  · exact False.elim hP12
  obtain ⟨r8, rfl, h⟩ := hP12
  refine X_tls ?_
  refine X_if_eq (tgt := 51) C dX4_isSplitting_36 (by decide) (fun c16 => ?_) (fun c16 => ?_)
  · have h := h.1 c16
    refine X_iconst (v := 0) C dX4_isSplitting_51 rfl ?_
    exact X_zret C rfl rfl dX4_isSplitting_52 (hn s9 _ h)
  · have h := h.2 c16
    refine X_aload_n C dX4_isSplitting_39 rfl 0 rfl (isRV_r _) ?_
    refine X_lconst (v := 1) C dX4_isSplitting_40 rfl ?_
    refine X_callVS (ci := 4) (q := (RX4, TX4, 54)) (As := [_]) (rest := []) C rfl (LX_S hX (k := 175) rfl) q2132 q2134 qs91 q136 q2135 ⟨rfl, nm_X4_areAbove⟩ rfl dX4_isSplitting_41 (m_X4_areAbove (Cx_l C) hX (d := d - 1) (by omega) s9 1 h) (by omega) (by decide) (Nat.le_of_ble_eq_true rfl) (fun s23 w18 hE19 hP20 => ?_) (fun s24 E21 q22 hE19 hP20 => ?_)
    rotate_left
    · exact False.elim hP20
    obtain ⟨r17, rfl, rfl, h⟩ := hP20
    refine X_tls ?_
    refine X_if_eq (tgt := 51) C dX4_isSplitting_44 (by decide) (fun c25 => ?_) (fun c25 => ?_)
    · have h := h.1 c25
      refine X_iconst (v := 0) C dX4_isSplitting_51 rfl ?_
      exact X_zret C rfl rfl dX4_isSplitting_52 (hn s9 _ h)
    · have h := h.2 c25
      refine X_iconst (v := 1) C dX4_isSplitting_47 rfl ?_
      refine X_goto (tgt := 52) C dX4_isSplitting_48 (by decide) ?_
      exact X_zret C rfl rfl dX4_isSplitting_52 (hn s9 _ h)
def w_X4_isSplitting (st : St) (p1 : Int32) (p2 : Nat) (p3 : Int32) (Φ : St → Int32 → Prop) : Prop := ∀ s1, s1 = putI st 175 36 p3 → w_X4_isSplitting_l8 Φ (fun (s7 : St) (x1 : Int32) => w_X4_isSplitting_b31 Φ s7 x1) gFU s1 p1 p2 0
theorem e_X4_isSplitting : plainFor yX4_isSplitting = true := plainFor_of_name (by decide +kernel)
theorem m_X4_isSplitting {θ : Th} {l : Launch} (hl0 : l.stackTraces = false) (hX : LX θ) {d : Nat} (hd : 4 ≤ d) (st : St) (p1 : Int32) (p2 : Nat) (p3 : Int32) (hs_p2 : sh st p2 = 101) (hb_p2 : p2 < gBIG) (hl_p2 : ln st p2 = 3) {Φ : St → Int32 → Prop} (h : w_X4_isSplitting st p1 p2 p3 Φ) : Ct θ l yX4_isSplitting (ws_ yX4_isSplitting cX4_isSplitting 5 (some Jvm.ClassFile.FieldType.boolean)) d [.ref (ad θ 175), .int p1, .ref (ad θ p2), .int p3] st (pI Φ, noX) := by
  refine Ct_entry hl0 e_X4_isSplitting (Nat.le_of_ble_eq_true rfl) (fun κ hκ _ C => ?_)
  have hn : ∀ st r, Φ st r → ((pI Φ, noX) : Ph).1 st (some (.int r)) := fun st r q => ⟨r, rfl, q⟩
  change X _ _ _ _ _ [(0, .ref (ad θ 175)), (1, .int p1), (2, .ref (ad θ p2)), (3, .int p3)] _
  unfold w_X4_isSplitting at h
  refine X_aload_n C dX4_isSplitting_0 rfl 0 rfl (isRV_r _) ?_
  refine X_iload_n C dX4_isSplitting_1 rfl 3 rfl ?_
  refine X_putSI (ci := 4) (j := 36) (q := (RX4, TX4, 54)) C rfl (by decide) q1802 rfl rfl dX4_isSplitting_2 (LX_S hX (k := 175) rfl) rfl rfl rfl ?_
  refine X_nm (fun s1 e2 => ?_)
  have h := h s1 e2
  have hs_p2 : sh s1 p2 = 101 := by rw [e2]; exact hs_p2
  have hl_p2 : ln s1 p2 = 3 := by rw [e2]; exact hl_p2
  refine X_iconst (v := 0) C dX4_isSplitting_5 rfl ?_
  refine X_istore C dX4_isSplitting_6 (lo2 := [(4, _), (0, _), (1, _), (2, _), (3, _)]) (by decide) rfl ?_
  refine X_sub [1, 2, 3, 0] (lo2 := [(0, _), (1, _), (2, _), (4, _)]) rfl ?_
  refine t_X4_isSplitting_l8 hX hd C hn ?_ gFU s1 p1 p2 0 hs_p2 hb_p2 hl_p2 h
  · intro s7 x1 h
    exact t_X4_isSplitting_b31 hX hd C hn s7 x1 h

theorem nm_X4_under : yX4_under.cls ≠ "java/lang/invoke/MethodHandle" ∧ yX4_under.cls ≠ "java/lang/invoke/VarHandle" ∧ (parseMethodDescriptor yX4_under.desc).map (fun d => d.parameters.length) = some 2 := by decide +kernel
theorem nm_X4_node : yX4_node.cls ≠ "java/lang/invoke/MethodHandle" ∧ yX4_node.cls ≠ "java/lang/invoke/VarHandle" ∧ (parseMethodDescriptor yX4_node.desc).map (fun d => d.parameters.length) = some 2 := by decide +kernel
def w_X4_under_b96 (rec : St → Int32 → Int32 → (St → Int32 → Prop) → Prop) (Φ : St → Prop) (K27 : St → Int32 → Int32 → Nat → Int32 → Int32 → Int32 → Prop) (st : St) (x1 : Int32) (x2 : Int32) (x3 : Nat) (x4 : Int32) (x5 : Int32) (z0 : Int32) : Prop := ((z0 = 0) → K27 st x1 x2 x3 x4 x5 z0) ∧ ((¬ z0 = 0) → w_X4_goesOn st (fun (s35 : St) => K27 s35 x1 x2 x3 x4 x5 z0))
theorem t_X4_under_b96 {θ : Th} {κ : Kx} {Ph : Ph} (hX : LX θ) {rec : St → Int32 → Int32 → (St → Int32 → Prop) → Prop} {dR : Nat} (hrec : ∀ {d : Nat}, dR ≤ d → ∀ (st : St) (p1 : Int32) (p2 : Int32), ∀ {Φ : St → Int32 → Prop}, rec st p1 p2 Φ → Ct θ κ.2.1 yX4_node (ws_ yX4_node cX4_node 5 (some Jvm.ClassFile.FieldType.int)) d [.ref (ad θ 175), .int p1, .int p2] st (pI Φ, noX)) {d : Nat} (hd : 5 ≤ d) (hdR : dR + 1 ≤ d) (C : Cx θ κ yX4_under cX4_under 7 (none : Option Jvm.ClassFile.FieldType) [] d) {Φ : St → Prop} (hn : ∀ st, Φ st → Ph.1 st none) {K27 : St → Int32 → Int32 → Nat → Int32 → Int32 → Int32 → Prop} (hK27 : ∀ (st : St) (x1 : Int32) (x2 : Int32) (x3 : Nat) (x4 : Int32) (x5 : Int32) (x6 : Int32), sh st x3 = 101 → x3 < gBIG → ln st x3 = 3 → K27 st x1 x2 x3 x4 x5 x6 → X θ κ Ph st 27 [(0, .ref (ad θ 175)), (1, .int x1), (2, .int x2), (3, .ref (ad θ x3)), (4, .int x4), (5, .int x5), (6, .int x6)] []) (st : St) (x1 : Int32) (x2 : Int32) (x3 : Nat) (x4 : Int32) (x5 : Int32) (z0 : Int32) (hs_x3 : sh st x3 = 101) (hb_x3 : x3 < gBIG) (hl_x3 : ln st x3 = 3) (h : w_X4_under_b96 rec Φ K27 st x1 x2 x3 x4 x5 z0) : X θ κ Ph st 96 [(0, .ref (ad θ 175)), (1, .int x1), (2, .int x2), (3, .ref (ad θ x3)), (4, .int x4), (5, .int x5)] [.int z0] := by
  unfold w_X4_under_b96 at h
  refine X_istore C dX4_under_96 (lo2 := [(6, _), (0, _), (1, _), (2, _), (3, _), (4, _), (5, _)]) (by decide) rfl ?_
  refine X_iload C dX4_under_98 0 rfl ?_
  refine X_if_eq (tgt := 27) C dX4_under_100 (by decide) (fun c33 => ?_) (fun c33 => ?_)
  · have h := h.1 c33
    refine X_sub [1, 2, 3, 4, 5, 6, 0] (lo2 := [(0, _), (1, _), (2, _), (3, _), (4, _), (5, _), (6, _)]) rfl ?_
    exact hK27 st x1 x2 x3 x4 x5 z0 hs_x3 hb_x3 hl_x3 h
  · have h := h.2 c33
    refine X_aload_n C dX4_under_103 rfl 1 rfl (isRV_r _) ?_
    refine X_callVS (ci := 4) (q := (RX4, TX4, 54)) (As := []) (rest := []) C rfl (LX_S hX (k := 175) rfl) q2225 q2227 qs103 q136 q2228 ⟨rfl, nm_X4_goesOn⟩ rfl dX4_under_104 (m_X4_goesOn (Cx_l C) hX (d := d - 1) (by omega) st h) (by omega) (by decide) (Nat.le_of_ble_eq_true rfl) (fun s35 w36 hE37 hP38 => ?_) (fun s41 E39 q40 hE37 hP38 => ?_)
    rotate_left
    · exact False.elim hP38
    obtain ⟨rfl, h⟩ := hP38
    refine X_tln ?_
    have hl_x3 := Ext_ln hE37 (by rw [hs_x3]; decide) hl_x3
    have hs_x3 := Ext_sh hE37 hs_x3 (by decide)
    refine X_goto (tgt := 27) C dX4_under_107 (by decide) ?_
    refine X_sub [1, 2, 3, 4, 5, 6, 0] (lo2 := [(0, _), (1, _), (2, _), (3, _), (4, _), (5, _), (6, _)]) rfl ?_
    exact hK27 s35 x1 x2 x3 x4 x5 z0 hs_x3 hb_x3 hl_x3 h
def w_X4_under_b95 (rec : St → Int32 → Int32 → (St → Int32 → Prop) → Prop) (Φ : St → Prop) (K27 : St → Int32 → Int32 → Nat → Int32 → Int32 → Int32 → Prop) (st : St) (x1 : Int32) (x2 : Int32) (x3 : Nat) (x4 : Int32) (x5 : Int32) : Prop := w_X4_under_b96 rec Φ K27 st x1 x2 x3 x4 x5 0
theorem t_X4_under_b95 {θ : Th} {κ : Kx} {Ph : Ph} (hX : LX θ) {rec : St → Int32 → Int32 → (St → Int32 → Prop) → Prop} {dR : Nat} (hrec : ∀ {d : Nat}, dR ≤ d → ∀ (st : St) (p1 : Int32) (p2 : Int32), ∀ {Φ : St → Int32 → Prop}, rec st p1 p2 Φ → Ct θ κ.2.1 yX4_node (ws_ yX4_node cX4_node 5 (some Jvm.ClassFile.FieldType.int)) d [.ref (ad θ 175), .int p1, .int p2] st (pI Φ, noX)) {d : Nat} (hd : 5 ≤ d) (hdR : dR + 1 ≤ d) (C : Cx θ κ yX4_under cX4_under 7 (none : Option Jvm.ClassFile.FieldType) [] d) {Φ : St → Prop} (hn : ∀ st, Φ st → Ph.1 st none) {K27 : St → Int32 → Int32 → Nat → Int32 → Int32 → Int32 → Prop} (hK27 : ∀ (st : St) (x1 : Int32) (x2 : Int32) (x3 : Nat) (x4 : Int32) (x5 : Int32) (x6 : Int32), sh st x3 = 101 → x3 < gBIG → ln st x3 = 3 → K27 st x1 x2 x3 x4 x5 x6 → X θ κ Ph st 27 [(0, .ref (ad θ 175)), (1, .int x1), (2, .int x2), (3, .ref (ad θ x3)), (4, .int x4), (5, .int x5), (6, .int x6)] []) (st : St) (x1 : Int32) (x2 : Int32) (x3 : Nat) (x4 : Int32) (x5 : Int32) (hs_x3 : sh st x3 = 101) (hb_x3 : x3 < gBIG) (hl_x3 : ln st x3 = 3) (h : w_X4_under_b95 rec Φ K27 st x1 x2 x3 x4 x5) : X θ κ Ph st 95 [(0, .ref (ad θ 175)), (1, .int x1), (2, .int x2), (3, .ref (ad θ x3)), (4, .int x4), (5, .int x5)] [] := by
  unfold w_X4_under_b95 at h
  refine X_iconst (v := 0) C dX4_under_95 rfl ?_
  exact t_X4_under_b96 hX hrec hd hdR C hn hK27 st x1 x2 x3 x4 x5 0 hs_x3 hb_x3 hl_x3 h
def w_X4_under_l27 (rec : St → Int32 → Int32 → (St → Int32 → Prop) → Prop) (Φ : St → Prop) (E110 : St → Int32 → Nat → Int32 → Prop) (E50 : St → Prop) : Nat → St → Int32 → Int32 → Nat → Int32 → Int32 → Int32 → Prop
  | 0, _, _, _, _, _, _, _ => False
  | n + 1, st, x1, x2, x3, x4, x5, x6 => ((x6 = 0) → E110 st x1 x3 x4) ∧ ((¬ x6 = 0) → ((0 ≤ (sI st 175 50)) → E110 st x1 x3 x4) ∧ ((¬ 0 ≤ (sI st 175 50)) → ((x4 ≠ (sI st 177 0)) → rec st x5 (x2 + 1) (fun (s22 : St) (r21 : Int32) => vp_in x4 3 ∧ ∀ s30, s30 = putI s22 x3 (x4.toNatClampNeg) r21 → ((0 ≤ (sI s30 175 50)) → w_X4_under_b95 rec Φ (w_X4_under_l27 rec Φ E110 E50 n) s30 x1 x2 x3 (x4 + 1) r21) ∧ ((¬ 0 ≤ (sI s30 175 50)) → w_X4_isSign s30 44 (fun (r42 : Int32) => ((r42 = 0) → w_X4_under_b95 rec Φ (w_X4_under_l27 rec Φ E110 E50 n) s30 x1 x2 x3 (x4 + 1) r21) ∧ ((¬ r42 = 0) → w_X4_under_b96 rec Φ (w_X4_under_l27 rec Φ E110 E50 n) s30 x1 x2 x3 (x4 + 1) r21 1))))) ∧ ((x4 = (sI st 177 0)) → E50 st)))
theorem t_X4_under_l27 {θ : Th} {κ : Kx} {Ph : Ph} (hX : LX θ) {rec : St → Int32 → Int32 → (St → Int32 → Prop) → Prop} {dR : Nat} (hrec : ∀ {d : Nat}, dR ≤ d → ∀ (st : St) (p1 : Int32) (p2 : Int32), ∀ {Φ : St → Int32 → Prop}, rec st p1 p2 Φ → Ct θ κ.2.1 yX4_node (ws_ yX4_node cX4_node 5 (some Jvm.ClassFile.FieldType.int)) d [.ref (ad θ 175), .int p1, .int p2] st (pI Φ, noX)) {d : Nat} (hd : 5 ≤ d) (hdR : dR + 1 ≤ d) (C : Cx θ κ yX4_under cX4_under 7 (none : Option Jvm.ClassFile.FieldType) [] d) {Φ : St → Prop} (hn : ∀ st, Φ st → Ph.1 st none) {E110 : St → Int32 → Nat → Int32 → Prop} {E50 : St → Prop} (hE110 : ∀ (st : St) (x1 : Int32) (x3 : Nat) (x4 : Int32), sh st x3 = 101 → x3 < gBIG → ln st x3 = 3 → E110 st x1 x3 x4 → X θ κ Ph st 110 [(0, .ref (ad θ 175)), (1, .int x1), (3, .ref (ad θ x3)), (4, .int x4)] []) (hE50 : ∀ (st : St), E50 st → X θ κ Ph st 50 [(0, .ref (ad θ 175))] []) : ∀ (n : Nat) (st : St) (x1 : Int32) (x2 : Int32) (x3 : Nat) (x4 : Int32) (x5 : Int32) (x6 : Int32), sh st x3 = 101 → x3 < gBIG → ln st x3 = 3 → w_X4_under_l27 rec Φ E110 E50 n st x1 x2 x3 x4 x5 x6 → X θ κ Ph st 27 [(0, .ref (ad θ 175)), (1, .int x1), (2, .int x2), (3, .ref (ad θ x3)), (4, .int x4), (5, .int x5), (6, .int x6)] [] := by
  intro n
  induction n with
  | zero => intro st x1 x2 x3 x4 x5 x6 hs_x3 hb_x3 hl_x3 h; exact h.elim
  | succ n hK27 =>
    intro st x1 x2 x3 x4 x5 x6 hs_x3 hb_x3 hl_x3 h
    rw [w_X4_under_l27] at h
    refine X_iload C dX4_under_27 6 rfl ?_
    refine X_if_eq (tgt := 110) C dX4_under_29 (by decide) (fun c18 => ?_) (fun c18 => ?_)
    · have h := h.1 c18
      refine X_sub [0, 1, 3, 4] (lo2 := [(0, _), (1, _), (3, _), (4, _)]) rfl ?_
      exact hE110 st x1 x3 x4 hs_x3 hb_x3 hl_x3 h
    · have h := h.2 c18
      refine X_aload_n C dX4_under_32 rfl 0 rfl (isRV_r _) ?_
      refine X_getS (ci := 4) (j := 50) (q := (RX4, TX4, 54)) C rfl (by decide) q1816 rfl dX4_under_33 (LX_S hX (k := 175) rfl) (v := .int (sI st 175 50)) rfl ?_
      refine X_if_ge (tgt := 110) C dX4_under_36 (by decide) (fun c19 => ?_) (fun c19 => ?_)
      · have h := h.1 c19
        refine X_sub [0, 1, 3, 4] (lo2 := [(0, _), (1, _), (3, _), (4, _)]) rfl ?_
        exact hE110 st x1 x3 x4 hs_x3 hb_x3 hl_x3 h
      · have h := h.2 c19
        refine X_iload C dX4_under_39 4 rfl ?_
        refine X_aload_n C dX4_under_41 rfl 0 rfl (isRV_r _) ?_
        refine X_getF (ci := 4) (j := 1) (q := (RX4, TX4, 54)) C rfl (by decide) q1767 rfl dX4_under_42 (b := 177) (LX_S hX (k := 175) rfl) (LX_F hX (k := 175) (j := 1) rfl) rfl ?_
        refine X_iconst (v := 0) C dX4_under_45 rfl ?_
        refine X_ialdS C (LX_S hX (k := 177) rfl) (LX_L hX (k := 177) rfl) (vp_dec rfl) rfl dX4_under_46 ?_
        refine X_icmp_ne (tgt := 55) C dX4_under_47 (by decide) (fun c20 => ?_) (fun c20 => ?_)
        · have h := h.1 c20
          refine X_aload_n C dX4_under_55 rfl 0 rfl (isRV_r _) ?_
          refine X_iload C dX4_under_56 5 rfl ?_
          refine X_iload_n C dX4_under_58 rfl 2 rfl ?_
          refine X_iconst (v := 1) C dX4_under_59 rfl ?_
          refine X_iadd C dX4_under_60 ?_
          refine X_callVS (ci := 4) (q := (RX4, TX4, 54)) (As := [_, _]) (rest := []) C rfl (LX_S hX (k := 175) rfl) q2270 q2272 qs112 q136 q2273 ⟨rfl, nm_X4_node⟩ rfl dX4_under_61 (hrec (d := d - 1) (by omega) st x5 (x2 + 1) h) (by omega) (by decide) (Nat.le_of_ble_eq_true rfl) (fun s22 w23 hE24 hP25 => ?_) (fun s28 E26 q27 hE24 hP25 => ?_)
          rotate_left
          · exact False.elim hP25
          obtain ⟨r21, rfl, h⟩ := hP25
          refine X_tls ?_
          have hl_x3 := Ext_ln hE24 (by rw [hs_x3]; decide) hl_x3
          have hs_x3 := Ext_sh hE24 hs_x3 (by decide)
          refine X_istore C dX4_under_64 (lo2 := [(5, _), (0, _), (1, _), (2, _), (3, _), (4, _), (6, _)]) (by decide) rfl ?_
          refine X_aload_n C dX4_under_66 rfl 4 rfl (isRV_r _) ?_
          refine X_iload C dX4_under_67 5 rfl ?_
          refine X_iload C dX4_under_69 0 rfl ?_
          have g29 := h.1
          have h := h.2
          refine X_iastD C hb_x3 hs_x3 hl_x3 g29 rfl dX4_under_71 ?_
          refine X_nm (fun s30 e31 => ?_)
          have h := h s30 e31
          have hs_x3 : sh s30 x3 = 101 := by rw [e31]; exact hs_x3
          have hl_x3 : ln s30 x3 = 3 := by rw [e31]; exact hl_x3
          refine X_iinc (v := (x4 + 1)) C (j := 5) dX4_under_72 rfl rfl (lo2 := [(4, _), (5, _), (0, _), (1, _), (2, _), (3, _), (6, _)]) (by decide) rfl ?_
          refine X_aload_n C dX4_under_75 rfl 2 rfl (isRV_r _) ?_
          refine X_getS (ci := 4) (j := 50) (q := (RX4, TX4, 54)) C rfl (by decide) q1816 rfl dX4_under_76 (LX_S hX (k := 175) rfl) (v := .int (sI s30 175 50)) rfl ?_
          refine X_if_ge (tgt := 95) C dX4_under_79 (by decide) (fun c32 => ?_) (fun c32 => ?_)
          · have h := h.1 c32
            refine X_sub [2, 3, 4, 5, 0, 1] (lo2 := [(0, _), (1, _), (2, _), (3, _), (4, _), (5, _)]) rfl ?_
            exact t_X4_under_b95 hX hrec hd hdR C hn hK27 s30 x1 x2 x3 (x4 + 1) r21 hs_x3 hb_x3 hl_x3 h
          · have h := h.2 c32
            refine X_aload_n C dX4_under_82 rfl 2 rfl (isRV_r _) ?_
            refine X_bipush (v := 44) C dX4_under_83 rfl ?_
            refine X_callVS (ci := 4) (q := (RX4, TX4, 54)) (As := [_]) (rest := []) C rfl (LX_S hX (k := 175) rfl) q2263 q2265 qs111 q136 q2266 ⟨rfl, nm_X4_isSign⟩ rfl dX4_under_85 (m_X4_isSign (Cx_l C) hX (d := d - 1) (by omega) s30 44 h) (by omega) (by decide) (Nat.le_of_ble_eq_true rfl) (fun s48 w43 hE44 hP45 => ?_) (fun s49 E46 q47 hE44 hP45 => ?_)
            rotate_left
            · exact False.elim hP45
            obtain ⟨r42, rfl, rfl, h⟩ := hP45
            refine X_tls ?_
            refine X_if_eq (tgt := 95) C dX4_under_88 (by decide) (fun c50 => ?_) (fun c50 => ?_)
            · have h := h.1 c50
              refine X_sub [2, 3, 4, 5, 0, 1] (lo2 := [(0, _), (1, _), (2, _), (3, _), (4, _), (5, _)]) rfl ?_
              exact t_X4_under_b95 hX hrec hd hdR C hn hK27 s30 x1 x2 x3 (x4 + 1) r21 hs_x3 hb_x3 hl_x3 h
            · have h := h.2 c50
              refine X_iconst (v := 1) C dX4_under_91 rfl ?_
              refine X_goto (tgt := 96) C dX4_under_92 (by decide) ?_
              refine X_sub [2, 3, 4, 5, 0, 1] (lo2 := [(0, _), (1, _), (2, _), (3, _), (4, _), (5, _)]) rfl ?_
              exact t_X4_under_b96 hX hrec hd hdR C hn hK27 s30 x1 x2 x3 (x4 + 1) r21 1 hs_x3 hb_x3 hl_x3 h
        · have h := h.2 c20
          refine X_sub [0] (lo2 := [(0, _)]) rfl ?_
          exact hE50 st h
def w_X4_under_b141 (rec : St → Int32 → Int32 → (St → Int32 → Prop) → Prop) (Φ : St → Prop) (st : St) : Prop := ((0 ≤ (sI st 175 50)) → Φ st) ∧ ((¬ 0 ≤ (sI st 175 50)) → w_X4_goesOn st (fun (s55 : St) => Φ s55))
theorem t_X4_under_b141 {θ : Th} {κ : Kx} {Ph : Ph} (hX : LX θ) {rec : St → Int32 → Int32 → (St → Int32 → Prop) → Prop} {dR : Nat} (hrec : ∀ {d : Nat}, dR ≤ d → ∀ (st : St) (p1 : Int32) (p2 : Int32), ∀ {Φ : St → Int32 → Prop}, rec st p1 p2 Φ → Ct θ κ.2.1 yX4_node (ws_ yX4_node cX4_node 5 (some Jvm.ClassFile.FieldType.int)) d [.ref (ad θ 175), .int p1, .int p2] st (pI Φ, noX)) {d : Nat} (hd : 5 ≤ d) (hdR : dR + 1 ≤ d) (C : Cx θ κ yX4_under cX4_under 7 (none : Option Jvm.ClassFile.FieldType) [] d) {Φ : St → Prop} (hn : ∀ st, Φ st → Ph.1 st none) (st : St) (h : w_X4_under_b141 rec Φ st) : X θ κ Ph st 141 [(0, .ref (ad θ 175))] [] := by
  unfold w_X4_under_b141 at h
  refine X_aload_n C dX4_under_141 rfl 0 rfl (isRV_r _) ?_
  refine X_getS (ci := 4) (j := 50) (q := (RX4, TX4, 54)) C rfl (by decide) q1816 rfl dX4_under_142 (LX_S hX (k := 175) rfl) (v := .int (sI st 175 50)) rfl ?_
  refine X_if_ge (tgt := 152) C dX4_under_145 (by decide) (fun c53 => ?_) (fun c53 => ?_)
  · have h := h.1 c53
    exact X_vret C rfl dX4_under_152 (hn st h)
  · have h := h.2 c53
    refine X_aload_n C dX4_under_148 rfl 0 rfl (isRV_r _) ?_
    refine X_callVS (ci := 4) (q := (RX4, TX4, 54)) (As := []) (rest := []) C rfl (LX_S hX (k := 175) rfl) q2225 q2227 qs103 q136 q2228 ⟨rfl, nm_X4_goesOn⟩ rfl dX4_under_149 (m_X4_goesOn (Cx_l C) hX (d := d - 1) (by omega) st h) (by omega) (by decide) (Nat.le_of_ble_eq_true rfl) (fun s55 w56 hE57 hP58 => ?_) (fun s61 E59 q60 hE57 hP58 => ?_)
    rotate_left
    · exact False.elim hP58
    obtain ⟨rfl, h⟩ := hP58
    refine X_tln ?_
    exact X_vret C rfl dX4_under_152 (hn s55 h)
def w_X4_under_b137 (rec : St → Int32 → Int32 → (St → Int32 → Prop) → Prop) (Φ : St → Prop) (st : St) : Prop := w_X4_fails st (fun (s72 : St) => w_X4_under_b141 rec Φ s72)
theorem t_X4_under_b137 {θ : Th} {κ : Kx} {Ph : Ph} (hX : LX θ) {rec : St → Int32 → Int32 → (St → Int32 → Prop) → Prop} {dR : Nat} (hrec : ∀ {d : Nat}, dR ≤ d → ∀ (st : St) (p1 : Int32) (p2 : Int32), ∀ {Φ : St → Int32 → Prop}, rec st p1 p2 Φ → Ct θ κ.2.1 yX4_node (ws_ yX4_node cX4_node 5 (some Jvm.ClassFile.FieldType.int)) d [.ref (ad θ 175), .int p1, .int p2] st (pI Φ, noX)) {d : Nat} (hd : 5 ≤ d) (hdR : dR + 1 ≤ d) (C : Cx θ κ yX4_under cX4_under 7 (none : Option Jvm.ClassFile.FieldType) [] d) {Φ : St → Prop} (hn : ∀ st, Φ st → Ph.1 st none) (st : St) (h : w_X4_under_b137 rec Φ st) : X θ κ Ph st 137 [(0, .ref (ad θ 175))] [] := by
  unfold w_X4_under_b137 at h
  refine X_aload_n C dX4_under_137 rfl 0 rfl (isRV_r _) ?_
  refine X_callVS (ci := 4) (q := (RX4, TX4, 54)) (As := []) (rest := []) C rfl (LX_S hX (k := 175) rfl) q2237 q2239 qs106 q136 q2240 ⟨rfl, nm_X4_fails⟩ rfl dX4_under_138 (m_X4_fails (Cx_l C) hX (d := d - 1) (by omega) st h) (by omega) (by decide) (Nat.le_of_ble_eq_true rfl) (fun s72 w73 hE74 hP75 => ?_) (fun s78 E76 q77 hE74 hP75 => ?_)
  rotate_left
  · exact False.elim hP75
  obtain ⟨rfl, h⟩ := hP75
  refine X_tln ?_
  exact t_X4_under_b141 hX hrec hd hdR C hn s72 h
def w_X4_under_b110 (rec : St → Int32 → Int32 → (St → Int32 → Prop) → Prop) (Φ : St → Prop) (st : St) (x1 : Int32) (x3 : Nat) (x4 : Int32) : Prop := ((0 ≤ (sI st 175 50)) → w_X4_under_b141 rec Φ st) ∧ ((¬ 0 ≤ (sI st 175 50)) → w_X4_isSign st 93 (fun (r62 : Int32) => ((r62 = 0) → w_X4_under_b137 rec Φ st) ∧ ((¬ r62 = 0) → w_X4_isSplitting st x1 x3 x4 (fun (s80 : St) (r79 : Int32) => ((r79 ≠ 0) → w_X4_under_b141 rec Φ s80) ∧ ((r79 = 0) → w_X4_under_b137 rec Φ s80)))))
theorem t_X4_under_b110 {θ : Th} {κ : Kx} {Ph : Ph} (hX : LX θ) {rec : St → Int32 → Int32 → (St → Int32 → Prop) → Prop} {dR : Nat} (hrec : ∀ {d : Nat}, dR ≤ d → ∀ (st : St) (p1 : Int32) (p2 : Int32), ∀ {Φ : St → Int32 → Prop}, rec st p1 p2 Φ → Ct θ κ.2.1 yX4_node (ws_ yX4_node cX4_node 5 (some Jvm.ClassFile.FieldType.int)) d [.ref (ad θ 175), .int p1, .int p2] st (pI Φ, noX)) {d : Nat} (hd : 5 ≤ d) (hdR : dR + 1 ≤ d) (C : Cx θ κ yX4_under cX4_under 7 (none : Option Jvm.ClassFile.FieldType) [] d) {Φ : St → Prop} (hn : ∀ st, Φ st → Ph.1 st none) (st : St) (x1 : Int32) (x3 : Nat) (x4 : Int32) (hs_x3 : sh st x3 = 101) (hb_x3 : x3 < gBIG) (hl_x3 : ln st x3 = 3) (h : w_X4_under_b110 rec Φ st x1 x3 x4) : X θ κ Ph st 110 [(0, .ref (ad θ 175)), (1, .int x1), (3, .ref (ad θ x3)), (4, .int x4)] [] := by
  unfold w_X4_under_b110 at h
  refine X_aload_n C dX4_under_110 rfl 0 rfl (isRV_r _) ?_
  refine X_getS (ci := 4) (j := 50) (q := (RX4, TX4, 54)) C rfl (by decide) q1816 rfl dX4_under_111 (LX_S hX (k := 175) rfl) (v := .int (sI st 175 50)) rfl ?_
  refine X_if_ge (tgt := 141) C dX4_under_114 (by decide) (fun c52 => ?_) (fun c52 => ?_)
  · have h := h.1 c52
    refine X_sub [0] (lo2 := [(0, _)]) rfl ?_
    exact t_X4_under_b141 hX hrec hd hdR C hn st h
  · have h := h.2 c52
    refine X_aload_n C dX4_under_117 rfl 0 rfl (isRV_r _) ?_
    refine X_bipush (v := 93) C dX4_under_118 rfl ?_
    refine X_callVS (ci := 4) (q := (RX4, TX4, 54)) (As := [_]) (rest := []) C rfl (LX_S hX (k := 175) rfl) q2263 q2265 qs111 q136 q2266 ⟨rfl, nm_X4_isSign⟩ rfl dX4_under_120 (m_X4_isSign (Cx_l C) hX (d := d - 1) (by omega) st 93 h) (by omega) (by decide) (Nat.le_of_ble_eq_true rfl) (fun s68 w63 hE64 hP65 => ?_) (fun s69 E66 q67 hE64 hP65 => ?_)
    rotate_left
    · exact False.elim hP65
    obtain ⟨r62, rfl, rfl, h⟩ := hP65
    refine X_tls ?_
    refine X_if_eq (tgt := 137) C dX4_under_123 (by decide) (fun c70 => ?_) (fun c70 => ?_)
    · have h := h.1 c70
      refine X_sub [0] (lo2 := [(0, _)]) rfl ?_
      exact t_X4_under_b137 hX hrec hd hdR C hn st h
    · have h := h.2 c70
      refine X_aload_n C dX4_under_126 rfl 0 rfl (isRV_r _) ?_
      refine X_iload_n C dX4_under_127 rfl 1 rfl ?_
      refine X_aload_n C dX4_under_128 rfl 2 rfl (isRV_r _) ?_
      refine X_iload C dX4_under_129 3 rfl ?_
      refine X_callVS (ci := 4) (q := (RX4, TX4, 54)) (As := [_, _, _]) (rest := []) C rfl (LX_S hX (k := 175) rfl) q2279 q2281 qs114 q136 q2282 ⟨rfl, nm_X4_isSplitting⟩ rfl dX4_under_131 (m_X4_isSplitting (Cx_l C) hX (d := d - 1) (by omega) st x1 x3 x4 hs_x3 hb_x3 hl_x3 h) (by omega) (by decide) (Nat.le_of_ble_eq_true rfl) (fun s80 w81 hE82 hP83 => ?_) (fun s86 E84 q85 hE82 hP83 => ?_)
      rotate_left
      · exact False.elim hP83
      obtain ⟨r79, rfl, h⟩ := hP83
      refine X_tls ?_
      have hl_x3 := Ext_ln hE82 (by rw [hs_x3]; decide) hl_x3
      have hs_x3 := Ext_sh hE82 hs_x3 (by decide)
      refine X_if_ne (tgt := 141) C dX4_under_134 (by decide) (fun c87 => ?_) (fun c87 => ?_)
      · have h := h.1 c87
        refine X_sub [0] (lo2 := [(0, _)]) rfl ?_
        exact t_X4_under_b141 hX hrec hd hdR C hn s80 h
      · have h := h.2 c87
        refine X_sub [0] (lo2 := [(0, _)]) rfl ?_
        exact t_X4_under_b137 hX hrec hd hdR C hn s80 h
def w_X4_under_b50 (rec : St → Int32 → Int32 → (St → Int32 → Prop) → Prop) (Φ : St → Prop) (st : St) : Prop := w_X4_fails st (fun (s90 : St) => Φ s90)
theorem t_X4_under_b50 {θ : Th} {κ : Kx} {Ph : Ph} (hX : LX θ) {rec : St → Int32 → Int32 → (St → Int32 → Prop) → Prop} {dR : Nat} (hrec : ∀ {d : Nat}, dR ≤ d → ∀ (st : St) (p1 : Int32) (p2 : Int32), ∀ {Φ : St → Int32 → Prop}, rec st p1 p2 Φ → Ct θ κ.2.1 yX4_node (ws_ yX4_node cX4_node 5 (some Jvm.ClassFile.FieldType.int)) d [.ref (ad θ 175), .int p1, .int p2] st (pI Φ, noX)) {d : Nat} (hd : 5 ≤ d) (hdR : dR + 1 ≤ d) (C : Cx θ κ yX4_under cX4_under 7 (none : Option Jvm.ClassFile.FieldType) [] d) {Φ : St → Prop} (hn : ∀ st, Φ st → Ph.1 st none) (st : St) (h : w_X4_under_b50 rec Φ st) : X θ κ Ph st 50 [(0, .ref (ad θ 175))] [] := by
  unfold w_X4_under_b50 at h
  refine X_aload_n C dX4_under_50 rfl 0 rfl (isRV_r _) ?_
  refine X_callVS (ci := 4) (q := (RX4, TX4, 54)) (As := []) (rest := []) C rfl (LX_S hX (k := 175) rfl) q2237 q2239 qs106 q136 q2240 ⟨rfl, nm_X4_fails⟩ rfl dX4_under_51 (m_X4_fails (Cx_l C) hX (d := d - 1) (by omega) st h) (by omega) (by decide) (Nat.le_of_ble_eq_true rfl) (fun s90 w91 hE92 hP93 => ?_) (fun s96 E94 q95 hE92 hP93 => ?_)
  rotate_left
  · exact False.elim hP93
  obtain ⟨rfl, h⟩ := hP93
  refine X_tln ?_
  exact X_vret C rfl dX4_under_54 (hn s90 h)
def w_X4_under (rec : St → Int32 → Int32 → (St → Int32 → Prop) → Prop) (st : St) (p1 : Int32) (p2 : Int32) (Φ : St → Prop) : Prop := ((p2 ≠ 5) → w_X4_goesOn st (fun (s3 : St) => sN s3 + 1 ≤ gCAP ∧ sS s3 + 3 ≤ gCAPS ∧ ∀ s12, s12 = mk s3 101 3 → w_X4_under_l27 rec Φ (fun (s51 : St) (x1 : Int32) (x3 : Nat) (x4 : Int32) => w_X4_under_b110 rec Φ s51 x1 x3 x4) (fun (s88 : St) => w_X4_under_b50 rec Φ s88) gFU s12 p1 p2 (sN s3) 0 (-1) 1)) ∧ ((p2 = 5) → w_X4_fails st (fun (s98 : St) => Φ s98))
theorem e_X4_under : plainFor yX4_under = true := plainFor_of_name (by decide +kernel)
theorem m_X4_under {θ : Th} {l : Launch} (hl0 : l.stackTraces = false) (hX : LX θ) {rec : St → Int32 → Int32 → (St → Int32 → Prop) → Prop} {dR : Nat} (hrec : ∀ {d : Nat}, dR ≤ d → ∀ (st : St) (p1 : Int32) (p2 : Int32), ∀ {Φ : St → Int32 → Prop}, rec st p1 p2 Φ → Ct θ l yX4_node (ws_ yX4_node cX4_node 5 (some Jvm.ClassFile.FieldType.int)) d [.ref (ad θ 175), .int p1, .int p2] st (pI Φ, noX)) {d : Nat} (hd : 5 ≤ d) (hdR : dR + 1 ≤ d) (st : St) (p1 : Int32) (p2 : Int32) {Φ : St → Prop} (h : w_X4_under rec st p1 p2 Φ) : Ct θ l yX4_under (ws_ yX4_under cX4_under 7 (none : Option Jvm.ClassFile.FieldType)) d [.ref (ad θ 175), .int p1, .int p2] st (pV Φ, noX) := by
  refine Ct_entry hl0 e_X4_under (Nat.le_of_ble_eq_true rfl) (fun κ hκ _ C => ?_)
  subst hκ
  have hn : ∀ st, Φ st → ((pV Φ, noX) : Ph).1 st none := fun st q => ⟨rfl, q⟩
  change X _ _ _ _ _ [(0, .ref (ad θ 175)), (1, .int p1), (2, .int p2)] _
  unfold w_X4_under at h
  refine X_iload_n C dX4_under_0 rfl 2 rfl ?_
  refine X_iconst (v := 5) C dX4_under_1 rfl ?_
  refine X_icmp_ne (tgt := 10) C dX4_under_2 (by decide) (fun c1 => ?_) (fun c1 => ?_)
  · have h := h.1 c1
    refine X_aload_n C dX4_under_10 rfl 0 rfl (isRV_r _) ?_
    refine X_callVS (ci := 4) (q := (RX4, TX4, 54)) (As := []) (rest := []) C rfl (LX_S hX (k := 175) rfl) q2225 q2227 qs103 q136 q2228 ⟨rfl, nm_X4_goesOn⟩ rfl dX4_under_11 (m_X4_goesOn (Cx_l C) hX (d := d - 1) (by omega) st h) (by omega) (by decide) (Nat.le_of_ble_eq_true rfl) (fun s3 w4 hE5 hP6 => ?_) (fun s9 E7 q8 hE5 hP6 => ?_)
    rotate_left
    · exact False.elim hP6
    obtain ⟨rfl, h⟩ := hP6
    refine X_tln ?_
    refine X_iconst (v := 3) C dX4_under_14 rfl ?_
    have g10 := h.1
    have h := h.2
    have g11 := h.1
    have h := h.2
    refine X_newarray (t := 101) (aty := .int) C 0 rfl (by decide) rfl q229 (fun _ _ h => h) (by decide) rfl (by decide) (by decide) g10 g11 dX4_under_15 (fun hE14 => ?_)
    refine X_nm (fun s12 e13 => ?_)
    have h := h s12 e13
    rw [← e13] at hE14
    have hs15 : sh s12 (sN s3) = 101 := by rw [e13]; exact sh_mk
    have hl17 : ln s12 (sN s3) = 3 := by rw [e13]; exact ln_mk
    have hb16 := nb_N g10
    refine X_astore_n C dX4_under_17 rfl (isRV_r _) (lo2 := [(3, _), (0, _), (1, _), (2, _)]) (by decide) rfl ?_
    refine X_iconst (v := 0) C dX4_under_18 rfl ?_
    refine X_istore C dX4_under_19 (lo2 := [(4, _), (3, _), (0, _), (1, _), (2, _)]) (by decide) rfl ?_
    refine X_iconst (v := (-1)) C dX4_under_21 rfl ?_
    refine X_istore C dX4_under_22 (lo2 := [(5, _), (4, _), (3, _), (0, _), (1, _), (2, _)]) (by decide) rfl ?_
    refine X_iconst (v := 1) C dX4_under_24 rfl ?_
    refine X_istore C dX4_under_25 (lo2 := [(6, _), (5, _), (4, _), (3, _), (0, _), (1, _), (2, _)]) (by decide) rfl ?_
    refine X_sub [4, 5, 6, 3, 2, 1, 0] (lo2 := [(0, _), (1, _), (2, _), (3, _), (4, _), (5, _), (6, _)]) rfl ?_
    refine t_X4_under_l27 hX hrec hd hdR C hn ?_ ?_ gFU s12 p1 p2 (sN s3) 0 (-1) 1 hs15 hb16 hl17 h
    · intro s51 x1 x3 x4 hs_x3 hb_x3 hl_x3 h
      exact t_X4_under_b110 hX hrec hd hdR C hn s51 x1 x3 x4 hs_x3 hb_x3 hl_x3 h
    · intro s88 h
      exact t_X4_under_b50 hX hrec hd hdR C hn s88 h
  · have h := h.2 c1
    refine X_aload_n C dX4_under_5 rfl 0 rfl (isRV_r _) ?_
    refine X_callVS (ci := 4) (q := (RX4, TX4, 54)) (As := []) (rest := []) C rfl (LX_S hX (k := 175) rfl) q2237 q2239 qs106 q136 q2240 ⟨rfl, nm_X4_fails⟩ rfl dX4_under_6 (m_X4_fails (Cx_l C) hX (d := d - 1) (by omega) st h) (by omega) (by decide) (Nat.le_of_ble_eq_true rfl) (fun s98 w99 hE100 hP101 => ?_) (fun s104 E102 q103 hE100 hP101 => ?_)
    rotate_left
    · exact False.elim hP101
    obtain ⟨rfl, h⟩ := hP101
    refine X_tln ?_
    exact X_vret C rfl dX4_under_9 (hn s98 h)

def w_X4_node_b35 (rec : St → Int32 → Int32 → (St → Int32 → Prop) → Prop) (Φ : St → Int32 → Prop) (st : St) : Prop := w_X4_fails st (fun (s3 : St) => Φ s3 0)
theorem t_X4_node_b35 {θ : Th} {κ : Kx} {Ph : Ph} (hX : LX θ) {rec : St → Int32 → Int32 → (St → Int32 → Prop) → Prop} {dR : Nat} (hrec : ∀ {d : Nat}, dR ≤ d → ∀ (st : St) (p1 : Int32) (p2 : Int32), ∀ {Φ : St → Int32 → Prop}, rec st p1 p2 Φ → Ct θ κ.2.1 yX4_node (ws_ yX4_node cX4_node 5 (some Jvm.ClassFile.FieldType.int)) d [.ref (ad θ 175), .int p1, .int p2] st (pI Φ, noX)) {d : Nat} (hd : 6 ≤ d) (hdR : dR + 2 ≤ d) (C : Cx θ κ yX4_node cX4_node 5 (some Jvm.ClassFile.FieldType.int) [] d) {Φ : St → Int32 → Prop} (hn : ∀ st r, Φ st r → Ph.1 st (some (.int r))) (st : St) (h : w_X4_node_b35 rec Φ st) : X θ κ Ph st 35 [(0, .ref (ad θ 175))] [] := by
  unfold w_X4_node_b35 at h
  refine X_aload_n C dX4_node_35 rfl 0 rfl (isRV_r _) ?_
  refine X_callVS (ci := 4) (q := (RX4, TX4, 54)) (As := []) (rest := []) C rfl (LX_S hX (k := 175) rfl) q2237 q2239 qs106 q136 q2240 ⟨rfl, nm_X4_fails⟩ rfl dX4_node_36 (m_X4_fails (Cx_l C) hX (d := d - 1) (by omega) st h) (by omega) (by decide) (Nat.le_of_ble_eq_true rfl) (fun s3 w4 hE5 hP6 => ?_) (fun s9 E7 q8 hE5 hP6 => ?_)
  rotate_left
  · exact False.elim hP6
  obtain ⟨rfl, h⟩ := hP6
  refine X_tln ?_
  refine X_iconst (v := 0) C dX4_node_39 rfl ?_
  exact X_iret C rfl dX4_node_40 (hn s3 _ h)
def w_X4_node_b160 (rec : St → Int32 → Int32 → (St → Int32 → Prop) → Prop) (Φ : St → Int32 → Prop) (st : St) (x2 : Int32) (x3 : Int32) : Prop := ((0 ≤ (sI st 175 50)) → Φ st x3) ∧ ((¬ 0 ≤ (sI st 175 50)) → w_X4_isSign st 91 (fun (r55 : Int32) => ((r55 = 0) → Φ st x3) ∧ ((¬ r55 = 0) → w_X4_under rec st x3 x2 (fun (s65 : St) => Φ s65 x3))))
theorem t_X4_node_b160 {θ : Th} {κ : Kx} {Ph : Ph} (hX : LX θ) {rec : St → Int32 → Int32 → (St → Int32 → Prop) → Prop} {dR : Nat} (hrec : ∀ {d : Nat}, dR ≤ d → ∀ (st : St) (p1 : Int32) (p2 : Int32), ∀ {Φ : St → Int32 → Prop}, rec st p1 p2 Φ → Ct θ κ.2.1 yX4_node (ws_ yX4_node cX4_node 5 (some Jvm.ClassFile.FieldType.int)) d [.ref (ad θ 175), .int p1, .int p2] st (pI Φ, noX)) {d : Nat} (hd : 6 ≤ d) (hdR : dR + 2 ≤ d) (C : Cx θ κ yX4_node cX4_node 5 (some Jvm.ClassFile.FieldType.int) [] d) {Φ : St → Int32 → Prop} (hn : ∀ st r, Φ st r → Ph.1 st (some (.int r))) (st : St) (x2 : Int32) (x3 : Int32) (h : w_X4_node_b160 rec Φ st x2 x3) : X θ κ Ph st 160 [(0, .ref (ad θ 175)), (2, .int x2), (3, .int x3)] [] := by
  unfold w_X4_node_b160 at h
  refine X_aload_n C dX4_node_160 rfl 0 rfl (isRV_r _) ?_
  refine X_getS (ci := 4) (j := 50) (q := (RX4, TX4, 54)) C rfl (by decide) q1816 rfl dX4_node_161 (LX_S hX (k := 175) rfl) (v := .int (sI st 175 50)) rfl ?_
  refine X_if_ge (tgt := 182) C dX4_node_164 (by decide) (fun c54 => ?_) (fun c54 => ?_)
  · have h := h.1 c54
    refine X_iload_n C dX4_node_182 rfl 2 rfl ?_
    exact X_iret C rfl dX4_node_183 (hn st _ h)
  · have h := h.2 c54
    refine X_aload_n C dX4_node_167 rfl 0 rfl (isRV_r _) ?_
    refine X_bipush (v := 91) C dX4_node_168 rfl ?_
    refine X_callVS (ci := 4) (q := (RX4, TX4, 54)) (As := [_]) (rest := []) C rfl (LX_S hX (k := 175) rfl) q2263 q2265 qs111 q136 q2266 ⟨rfl, nm_X4_isSign⟩ rfl dX4_node_170 (m_X4_isSign (Cx_l C) hX (d := d - 1) (by omega) st 91 h) (by omega) (by decide) (Nat.le_of_ble_eq_true rfl) (fun s61 w56 hE57 hP58 => ?_) (fun s62 E59 q60 hE57 hP58 => ?_)
    rotate_left
    · exact False.elim hP58
    obtain ⟨r55, rfl, rfl, h⟩ := hP58
    refine X_tls ?_
    refine X_if_eq (tgt := 182) C dX4_node_173 (by decide) (fun c63 => ?_) (fun c63 => ?_)
    · have h := h.1 c63
      refine X_iload_n C dX4_node_182 rfl 2 rfl ?_
      exact X_iret C rfl dX4_node_183 (hn st _ h)
    · have h := h.2 c63
      refine X_aload_n C dX4_node_176 rfl 0 rfl (isRV_r _) ?_
      refine X_iload_n C dX4_node_177 rfl 2 rfl ?_
      refine X_iload_n C dX4_node_178 rfl 1 rfl ?_
      refine X_callVS (ci := 4) (q := (RX4, TX4, 54)) (As := [_, _]) (rest := []) C rfl (LX_S hX (k := 175) rfl) q2275 q2277 qs113 q136 q2278 ⟨rfl, nm_X4_under⟩ rfl dX4_node_179 (m_X4_under (Cx_l C) hX hrec (d := d - 1) (by omega) (by omega) st x3 x2 h) (by omega) (by decide) (Nat.le_of_ble_eq_true rfl) (fun s65 w66 hE67 hP68 => ?_) (fun s71 E69 q70 hE67 hP68 => ?_)
      rotate_left
      · exact False.elim hP68
      obtain ⟨rfl, h⟩ := hP68
      refine X_tln ?_
      refine X_iload_n C dX4_node_182 rfl 2 rfl ?_
      exact X_iret C rfl dX4_node_183 (hn s65 _ h)
def w_X4_node (rec : St → Int32 → Int32 → (St → Int32 → Prop) → Prop) (st : St) (p1 : Int32) (p2 : Int32) (Φ : St → Int32 → Prop) : Prop := ((0 ≤ (sI st 175 50)) → w_X4_node_b35 rec Φ st) ∧ ((¬ 0 ≤ (sI st 175 50)) → (((sI st 175 48) ≠ 2) → w_X4_node_b35 rec Φ st) ∧ (((sI st 175 48) = 2) → (((sI st 177 35) = 20) → w_X4_node_b35 rec Φ st) ∧ ((¬ (sI st 177 35) = 20) → ((p1 < (sI st 175 49)) → w_X4_points st (fun (r13 : Int32) => w_X4_takes_2 st 0 (r13 - 1) (fun (s22 : St) (r21 : Int32) => (((sI s22 175 50) < 0) → ∀ v30 : Int32, v30 = (sI s22 177 35) → ∀ s32, s32 = putI s22 177 35 ((sI s22 177 35) + 1) → vp_in (36 + (3 * v30)) 97 ∧ ∀ s35, s35 = putI s32 177 ((36 + (3 * v30)).toNatClampNeg) r21 → vp_in ((36 + (3 * v30)) + 1) 97 ∧ ∀ s38, s38 = putI s35 177 (((36 + (3 * v30)) + 1).toNatClampNeg) 0 → vp_in ((36 + (3 * v30)) + 2) 97 ∧ ∀ s41, s41 = putI s38 177 (((36 + (3 * v30)) + 2).toNatClampNeg) p2 → w_X4_isWord s41 (gBIG + 2 * 9) (fun (r45 : Int32) => ((r45 = 0) → w_X4_node_b160 rec Φ s41 p2 r21) ∧ ((¬ r45 = 0) → w_X4_goesOn s41 (fun (s73 : St) => w_X4_takes_2 s73 1 99 (fun (s81 : St) (r80 : Int32) => ∀ s88, s88 = putI s81 177 (((36 + (3 * v30)) + 1).toNatClampNeg) r80 → w_X4_node_b160 rec Φ s88 p2 r21))))) ∧ ((¬ (sI s22 175 50) < 0) → Φ s22 0)))) ∧ ((¬ p1 < (sI st 175 49)) → w_X4_node_b35 rec Φ st))))
theorem e_X4_node : plainFor yX4_node = true := plainFor_of_name (by decide +kernel)
theorem m_X4_node {θ : Th} {l : Launch} (hl0 : l.stackTraces = false) (hX : LX θ) {rec : St → Int32 → Int32 → (St → Int32 → Prop) → Prop} {dR : Nat} (hrec : ∀ {d : Nat}, dR ≤ d → ∀ (st : St) (p1 : Int32) (p2 : Int32), ∀ {Φ : St → Int32 → Prop}, rec st p1 p2 Φ → Ct θ l yX4_node (ws_ yX4_node cX4_node 5 (some Jvm.ClassFile.FieldType.int)) d [.ref (ad θ 175), .int p1, .int p2] st (pI Φ, noX)) {d : Nat} (hd : 6 ≤ d) (hdR : dR + 2 ≤ d) (st : St) (p1 : Int32) (p2 : Int32) {Φ : St → Int32 → Prop} (h : w_X4_node rec st p1 p2 Φ) : Ct θ l yX4_node (ws_ yX4_node cX4_node 5 (some Jvm.ClassFile.FieldType.int)) d [.ref (ad θ 175), .int p1, .int p2] st (pI Φ, noX) := by
  refine Ct_entry hl0 e_X4_node (Nat.le_of_ble_eq_true rfl) (fun κ hκ _ C => ?_)
  subst hκ
  have hn : ∀ st r, Φ st r → ((pI Φ, noX) : Ph).1 st (some (.int r)) := fun st r q => ⟨r, rfl, q⟩
  change X _ _ _ _ _ [(0, .ref (ad θ 175)), (1, .int p1), (2, .int p2)] _
  unfold w_X4_node at h
  refine X_aload_n C dX4_node_0 rfl 0 rfl (isRV_r _) ?_
  refine X_getS (ci := 4) (j := 50) (q := (RX4, TX4, 54)) C rfl (by decide) q1816 rfl dX4_node_1 (LX_S hX (k := 175) rfl) (v := .int (sI st 175 50)) rfl ?_
  refine X_if_ge (tgt := 35) C dX4_node_4 (by decide) (fun c1 => ?_) (fun c1 => ?_)
  · have h := h.1 c1
    refine X_sub [0] (lo2 := [(0, _)]) rfl ?_
    exact t_X4_node_b35 hX hrec hd hdR C hn st h
  · have h := h.2 c1
    refine X_aload_n C dX4_node_7 rfl 0 rfl (isRV_r _) ?_
    refine X_getS (ci := 4) (j := 48) (q := (RX4, TX4, 54)) C rfl (by decide) q1814 rfl dX4_node_8 (LX_S hX (k := 175) rfl) (v := .int (sI st 175 48)) rfl ?_
    refine X_iconst (v := 2) C dX4_node_11 rfl ?_
    refine X_icmp_ne (tgt := 35) C dX4_node_12 (by decide) (fun c10 => ?_) (fun c10 => ?_)
    · have h := h.1 c10
      refine X_sub [0] (lo2 := [(0, _)]) rfl ?_
      exact t_X4_node_b35 hX hrec hd hdR C hn st h
    · have h := h.2 c10
      refine X_aload_n C dX4_node_15 rfl 0 rfl (isRV_r _) ?_
      refine X_getF (ci := 4) (j := 1) (q := (RX4, TX4, 54)) C rfl (by decide) q1767 rfl dX4_node_16 (b := 177) (LX_S hX (k := 175) rfl) (LX_F hX (k := 175) (j := 1) rfl) rfl ?_
      refine X_bipush (v := 35) C dX4_node_19 rfl ?_
      refine X_ialdS C (LX_S hX (k := 177) rfl) (LX_L hX (k := 177) rfl) (vp_dec rfl) rfl dX4_node_21 ?_
      refine X_bipush (v := 20) C dX4_node_22 rfl ?_
      refine X_icmp_eq (tgt := 35) C dX4_node_24 (by decide) (fun c11 => ?_) (fun c11 => ?_)
      · have h := h.1 c11
        refine X_sub [0] (lo2 := [(0, _)]) rfl ?_
        exact t_X4_node_b35 hX hrec hd hdR C hn st h
      · have h := h.2 c11
        refine X_aload_n C dX4_node_27 rfl 0 rfl (isRV_r _) ?_
        refine X_getS (ci := 4) (j := 49) (q := (RX4, TX4, 54)) C rfl (by decide) q1815 rfl dX4_node_28 (LX_S hX (k := 175) rfl) (v := .int (sI st 175 49)) rfl ?_
        refine X_iload_n C dX4_node_31 rfl 1 rfl ?_
        refine X_icmp_gt (tgt := 41) C dX4_node_32 (by decide) (fun c12 => ?_) (fun c12 => ?_)
        · have h := h.1 c12
          refine X_aload_n C dX4_node_41 rfl 0 rfl (isRV_r _) ?_
          refine X_iconst (v := 0) C dX4_node_42 rfl ?_
          refine X_aload_n C dX4_node_43 rfl 0 rfl (isRV_r _) ?_
          refine X_callVS (ci := 4) (q := (RX4, TX4, 54)) (As := []) (rest := [_, _]) C rfl (LX_S hX (k := 175) rfl) q1996 q1998 qs68 q136 q1999 ⟨rfl, nm_X4_points⟩ rfl dX4_node_44 (m_X4_points (Cx_l C) hX (d := d - 1) (by omega) st h) (by omega) (by decide) (Nat.le_of_ble_eq_true rfl) (fun s19 w14 hE15 hP16 => ?_) (fun s20 E17 q18 hE15 hP16 => ?_)
          rotate_left
          · exact False.elim hP16
          obtain ⟨r13, rfl, rfl, h⟩ := hP16
          refine X_tls ?_
          refine X_iconst (v := 1) C dX4_node_47 rfl ?_
          refine X_isub C dX4_node_48 ?_
          refine X_callVS (ci := 4) (q := (RX4, TX4, 54)) (As := [_, _]) (rest := []) C rfl (LX_S hX (k := 175) rfl) q2253 q2255 qs109 q136 q2256 ⟨rfl, nm_X4_takes_2⟩ rfl dX4_node_49 (m_X4_takes_2 (Cx_l C) hX (d := d - 1) (by omega) st 0 (r13 - 1) h) (by omega) (by decide) (Nat.le_of_ble_eq_true rfl) (fun s22 w23 hE24 hP25 => ?_) (fun s28 E26 q27 hE24 hP25 => ?_)
          rotate_left
          · exact False.elim hP25
          obtain ⟨r21, rfl, h⟩ := hP25
          refine X_tls ?_
          refine X_istore_n C dX4_node_52 rfl (lo2 := [(3, _), (0, _), (1, _), (2, _)]) (by decide) rfl ?_
          refine X_aload_n C dX4_node_53 rfl 1 rfl (isRV_r _) ?_
          refine X_getS (ci := 4) (j := 50) (q := (RX4, TX4, 54)) C rfl (by decide) q1816 rfl dX4_node_54 (LX_S hX (k := 175) rfl) (v := .int (sI s22 175 50)) rfl ?_
          refine X_if_lt (tgt := 62) C dX4_node_57 (by decide) (fun c29 => ?_) (fun c29 => ?_)
          · have h := h.1 c29
            refine X_aload_n C dX4_node_62 rfl 1 rfl (isRV_r _) ?_
            refine X_getF (ci := 4) (j := 1) (q := (RX4, TX4, 54)) C rfl (by decide) q1767 rfl dX4_node_63 (b := 177) (LX_S hX (k := 175) rfl) (LX_F hX (k := 175) (j := 1) rfl) rfl ?_
            refine X_bipush (v := 35) C dX4_node_66 rfl ?_
            refine X_ialdS C (LX_S hX (k := 177) rfl) (LX_L hX (k := 177) rfl) (vp_dec rfl) rfl dX4_node_68 ?_
            refine X_topi (fun v30 e31 => ?_)
            have h := h v30 e31
            refine X_istore C dX4_node_69 (lo2 := [(4, _), (3, _), (0, _), (1, _), (2, _)]) (by decide) rfl ?_
            refine X_aload_n C dX4_node_71 rfl 2 rfl (isRV_r _) ?_
            refine X_getF (ci := 4) (j := 1) (q := (RX4, TX4, 54)) C rfl (by decide) q1767 rfl dX4_node_72 (b := 177) (LX_S hX (k := 175) rfl) (LX_F hX (k := 175) (j := 1) rfl) rfl ?_
            refine X_bipush (v := 35) C dX4_node_75 rfl ?_
            refine X_dup2 C dX4_node_77 rfl rfl ?_
            refine X_ialdS C (LX_S hX (k := 177) rfl) (LX_L hX (k := 177) rfl) (vp_dec rfl) rfl dX4_node_78 ?_
            refine X_iconst (v := 1) C dX4_node_79 rfl ?_
            refine X_iadd C dX4_node_80 ?_
            refine X_iastS C (LX_S hX (k := 177) rfl) (LX_L hX (k := 177) rfl) (vp_dec rfl) rfl dX4_node_81 ?_
            refine X_nm (fun s32 e33 => ?_)
            have h := h s32 e33
            refine X_aload_n C dX4_node_82 rfl 2 rfl (isRV_r _) ?_
            refine X_getF (ci := 4) (j := 1) (q := (RX4, TX4, 54)) C rfl (by decide) q1767 rfl dX4_node_83 (b := 177) (LX_S hX (k := 175) rfl) (LX_F hX (k := 175) (j := 1) rfl) rfl ?_
            refine X_bipush (v := 36) C dX4_node_86 rfl ?_
            refine X_iconst (v := 3) C dX4_node_88 rfl ?_
            refine X_iload C dX4_node_89 0 rfl ?_
            refine X_imul C dX4_node_91 ?_
            refine X_iadd C dX4_node_92 ?_
            refine X_iload_n C dX4_node_93 rfl 1 rfl ?_
            have g34 := h.1
            have h := h.2
            refine X_iastS C (LX_S hX (k := 177) rfl) (LX_L hX (k := 177) rfl) g34 rfl dX4_node_94 ?_
            refine X_nm (fun s35 e36 => ?_)
            have h := h s35 e36
            refine X_aload_n C dX4_node_95 rfl 2 rfl (isRV_r _) ?_
            refine X_getF (ci := 4) (j := 1) (q := (RX4, TX4, 54)) C rfl (by decide) q1767 rfl dX4_node_96 (b := 177) (LX_S hX (k := 175) rfl) (LX_F hX (k := 175) (j := 1) rfl) rfl ?_
            refine X_bipush (v := 36) C dX4_node_99 rfl ?_
            refine X_iconst (v := 3) C dX4_node_101 rfl ?_
            refine X_iload C dX4_node_102 0 rfl ?_
            refine X_imul C dX4_node_104 ?_
            refine X_iadd C dX4_node_105 ?_
            refine X_iconst (v := 1) C dX4_node_106 rfl ?_
            refine X_iadd C dX4_node_107 ?_
            refine X_iconst (v := 0) C dX4_node_108 rfl ?_
            have g37 := h.1
            have h := h.2
            refine X_iastS C (LX_S hX (k := 177) rfl) (LX_L hX (k := 177) rfl) g37 rfl dX4_node_109 ?_
            refine X_nm (fun s38 e39 => ?_)
            have h := h s38 e39
            refine X_aload_n C dX4_node_110 rfl 2 rfl (isRV_r _) ?_
            refine X_getF (ci := 4) (j := 1) (q := (RX4, TX4, 54)) C rfl (by decide) q1767 rfl dX4_node_111 (b := 177) (LX_S hX (k := 175) rfl) (LX_F hX (k := 175) (j := 1) rfl) rfl ?_
            refine X_bipush (v := 36) C dX4_node_114 rfl ?_
            refine X_iconst (v := 3) C dX4_node_116 rfl ?_
            refine X_iload C dX4_node_117 0 rfl ?_
            refine X_imul C dX4_node_119 ?_
            refine X_iadd C dX4_node_120 ?_
            refine X_iconst (v := 2) C dX4_node_121 rfl ?_
            refine X_iadd C dX4_node_122 ?_
            refine X_iload_n C dX4_node_123 rfl 4 rfl ?_
            have g40 := h.1
            have h := h.2
            refine X_iastS C (LX_S hX (k := 177) rfl) (LX_L hX (k := 177) rfl) g40 rfl dX4_node_124 ?_
            refine X_nm (fun s41 e42 => ?_)
            have h := h s41 e42
            refine X_aload_n C dX4_node_125 rfl 2 rfl (isRV_r _) ?_
            refine X_ldcws (tx := "stay") (i := 9) C (by decide +kernel) dX4_node_126 ?_
            refine X_con (fun hc43 => ?_)
            have hs44 : sh s41 (gBIG + 2 * 9) = 10 := con_str hc43 (by decide)
            refine X_callVS (ci := 4) (q := (RX4, TX4, 54)) (As := [_]) (rest := []) C rfl (LX_S hX (k := 175) rfl) q2246 q2248 qs108 q136 q2249 ⟨rfl, nm_X4_isWord⟩ rfl dX4_node_129 (m_X4_isWord (Cx_l C) hX (d := d - 1) (by omega) s41 (gBIG + 2 * 9) hs44 h) (by omega) (by decide) (Nat.le_of_ble_eq_true rfl) (fun s51 w46 hE47 hP48 => ?_) (fun s52 E49 q50 hE47 hP48 => ?_)
            rotate_left
            · exact False.elim hP48
            obtain ⟨r45, rfl, rfl, h⟩ := hP48
            refine X_tls ?_
            refine X_if_eq (tgt := 160) C dX4_node_132 (by decide) (fun c53 => ?_) (fun c53 => ?_)
            · have h := h.1 c53
              refine X_sub [2, 4, 1] (lo2 := [(0, _), (2, _), (3, _)]) rfl ?_
              exact t_X4_node_b160 hX hrec hd hdR C hn s41 p2 r21 h
            · have h := h.2 c53
              refine X_aload_n C dX4_node_135 rfl 2 rfl (isRV_r _) ?_
              refine X_callVS (ci := 4) (q := (RX4, TX4, 54)) (As := []) (rest := []) C rfl (LX_S hX (k := 175) rfl) q2225 q2227 qs103 q136 q2228 ⟨rfl, nm_X4_goesOn⟩ rfl dX4_node_136 (m_X4_goesOn (Cx_l C) hX (d := d - 1) (by omega) s41 h) (by omega) (by decide) (Nat.le_of_ble_eq_true rfl) (fun s73 w74 hE75 hP76 => ?_) (fun s79 E77 q78 hE75 hP76 => ?_)
              rotate_left
              · exact False.elim hP76
              obtain ⟨rfl, h⟩ := hP76
              refine X_tln ?_
              have hs44 := Ext_sh hE75 hs44 (by decide)
              refine X_aload_n C dX4_node_139 rfl 2 rfl (isRV_r _) ?_
              refine X_getF (ci := 4) (j := 1) (q := (RX4, TX4, 54)) C rfl (by decide) q1767 rfl dX4_node_140 (b := 177) (LX_S hX (k := 175) rfl) (LX_F hX (k := 175) (j := 1) rfl) rfl ?_
              refine X_bipush (v := 36) C dX4_node_143 rfl ?_
              refine X_iconst (v := 3) C dX4_node_145 rfl ?_
              refine X_iload C dX4_node_146 0 rfl ?_
              refine X_imul C dX4_node_148 ?_
              refine X_iadd C dX4_node_149 ?_
              refine X_iconst (v := 1) C dX4_node_150 rfl ?_
              refine X_iadd C dX4_node_151 ?_
              refine X_aload_n C dX4_node_152 rfl 2 rfl (isRV_r _) ?_
              refine X_iconst (v := 1) C dX4_node_153 rfl ?_
              refine X_bipush (v := 99) C dX4_node_154 rfl ?_
              refine X_callVS (ci := 4) (q := (RX4, TX4, 54)) (As := [_, _]) (rest := [_, _]) C rfl (LX_S hX (k := 175) rfl) q2253 q2255 qs109 q136 q2256 ⟨rfl, nm_X4_takes_2⟩ rfl dX4_node_156 (m_X4_takes_2 (Cx_l C) hX (d := d - 1) (by omega) s73 1 99 h) (by omega) (by decide) (Nat.le_of_ble_eq_true rfl) (fun s81 w82 hE83 hP84 => ?_) (fun s87 E85 q86 hE83 hP84 => ?_)
              rotate_left
              · exact False.elim hP84
              obtain ⟨r80, rfl, h⟩ := hP84
              refine X_tls ?_
              have hs44 := Ext_sh hE83 hs44 (by decide)
              refine X_iastS C (LX_S hX (k := 177) rfl) (LX_L hX (k := 177) rfl) g37 rfl dX4_node_159 ?_
              refine X_nm (fun s88 e89 => ?_)
              have h := h s88 e89
              have hs44 : sh s88 (gBIG + 2 * 9) = 10 := by rw [e89]; exact hs44
              refine X_sub [2, 4, 1] (lo2 := [(0, _), (2, _), (3, _)]) rfl ?_
              exact t_X4_node_b160 hX hrec hd hdR C hn s88 p2 r21 h
          · have h := h.2 c29
            refine X_iconst (v := 0) C dX4_node_60 rfl ?_
            exact X_iret C rfl dX4_node_61 (hn s22 _ h)
        · have h := h.2 c12
          refine X_sub [0] (lo2 := [(0, _)]) rfl ?_
          exact t_X4_node_b35 hX hrec hd hdR C hn st h

def w_X4_node_f : Nat → St → Int32 → Int32 → (St → Int32 → Prop) → Prop
  | 0, _, _, _, _ => False
  | n + 1, st, p1, p2, Φ => w_X4_node (w_X4_node_f n) st p1 p2 Φ
theorem m_X4_node_f {θ : Th} {l : Launch} (hl0 : l.stackTraces = false) (hX : LX θ) : ∀ (n : Nat) {d : Nat}, 6 + 2 * n ≤ d → ∀ (st : St) (p1 : Int32) (p2 : Int32), ∀ {Φ : St → Int32 → Prop}, w_X4_node_f n st p1 p2 Φ → Ct θ l yX4_node (ws_ yX4_node cX4_node 5 (some Jvm.ClassFile.FieldType.int)) d [.ref (ad θ 175), .int p1, .int p2] st (pI Φ, noX) := by
  intro n
  induction n with
  | zero => intro d hd st p1 p2 Φ h; exact h.elim
  | succ n ih =>
    intro d hd st p1 p2 Φ h
    exact m_X4_node hl0 hX (dR := 6 + 2 * n) ih (by omega) (by omega) st p1 p2 h

theorem nm_X4_statement : yX4_statement.cls ≠ "java/lang/invoke/MethodHandle" ∧ yX4_statement.cls ≠ "java/lang/invoke/VarHandle" ∧ (parseMethodDescriptor yX4_statement.desc).map (fun d => d.parameters.length) = some 0 := by decide +kernel
def w_X4_statement_b65 (Φ : St → Prop) (st : St) (x2 : Int32) (z0 : Int32) : Prop := vp_in z0 97 ∧ ∀ s41, s41 = putI st 177 (z0.toNatClampNeg) x2 → ∀ s43, s43 = putI s41 177 31 0 → ∀ s45, s45 = putI s43 177 35 0 → ∀ s47, s47 = putI s45 175 53 1 → Φ s47
theorem t_X4_statement_b65 {θ : Th} {κ : Kx} {Ph : Ph} (hX : LX θ) {d : Nat} (hd : 23 ≤ d) (C : Cx θ κ yX4_statement cX4_statement 3 (none : Option Jvm.ClassFile.FieldType) [] d) {Φ : St → Prop} (hn : ∀ st, Φ st → Ph.1 st none) (st : St) (x2 : Int32) (z0 : Int32) (h : w_X4_statement_b65 Φ st x2 z0) : X θ κ Ph st 65 [(0, .ref (ad θ 175)), (2, .int x2)] [.int z0, .ref (ad θ 177)] := by
  unfold w_X4_statement_b65 at h
  refine X_iload_n C dX4_statement_65 rfl 1 rfl ?_
  have g40 := h.1
  have h := h.2
  refine X_iastS C (LX_S hX (k := 177) rfl) (LX_L hX (k := 177) rfl) g40 rfl dX4_statement_66 ?_
  refine X_nm (fun s41 e42 => ?_)
  have h := h s41 e42
  refine X_aload_n C dX4_statement_67 rfl 0 rfl (isRV_r _) ?_
  refine X_getF (ci := 4) (j := 1) (q := (RX4, TX4, 54)) C rfl (by decide) q1767 rfl dX4_statement_68 (b := 177) (LX_S hX (k := 175) rfl) (LX_F hX (k := 175) (j := 1) rfl) rfl ?_
  refine X_bipush (v := 31) C dX4_statement_71 rfl ?_
  refine X_iconst (v := 0) C dX4_statement_73 rfl ?_
  refine X_iastS C (LX_S hX (k := 177) rfl) (LX_L hX (k := 177) rfl) (vp_dec rfl) rfl dX4_statement_74 ?_
  refine X_nm (fun s43 e44 => ?_)
  have h := h s43 e44
  refine X_aload_n C dX4_statement_75 rfl 0 rfl (isRV_r _) ?_
  refine X_getF (ci := 4) (j := 1) (q := (RX4, TX4, 54)) C rfl (by decide) q1767 rfl dX4_statement_76 (b := 177) (LX_S hX (k := 175) rfl) (LX_F hX (k := 175) (j := 1) rfl) rfl ?_
  refine X_bipush (v := 35) C dX4_statement_79 rfl ?_
  refine X_iconst (v := 0) C dX4_statement_81 rfl ?_
  refine X_iastS C (LX_S hX (k := 177) rfl) (LX_L hX (k := 177) rfl) (vp_dec rfl) rfl dX4_statement_82 ?_
  refine X_nm (fun s45 e46 => ?_)
  have h := h s45 e46
  refine X_aload_n C dX4_statement_83 rfl 0 rfl (isRV_r _) ?_
  refine X_iconst (v := 1) C dX4_statement_84 rfl ?_
  refine X_putSI (ci := 4) (j := 53) (q := (RX4, TX4, 54)) C rfl (by decide) q1819 rfl rfl dX4_statement_85 (LX_S hX (k := 175) rfl) rfl rfl rfl ?_
  refine X_nm (fun s47 e48 => ?_)
  have h := h s47 e48
  refine X_goto (tgt := 345) C dX4_statement_88 (by decide) ?_
  exact X_vret C rfl dX4_statement_345 (hn s47 h)
def w_X4_statement_b51 (Φ : St → Prop) (st : St) (x1 : Int32) (z0 : Int32) : Prop := ((x1 = 0) → w_X4_statement_b65 Φ st z0 1) ∧ ((¬ x1 = 0) → w_X4_statement_b65 Φ st z0 0)
theorem t_X4_statement_b51 {θ : Th} {κ : Kx} {Ph : Ph} (hX : LX θ) {d : Nat} (hd : 23 ≤ d) (C : Cx θ κ yX4_statement cX4_statement 3 (none : Option Jvm.ClassFile.FieldType) [] d) {Φ : St → Prop} (hn : ∀ st, Φ st → Ph.1 st none) (st : St) (x1 : Int32) (z0 : Int32) (h : w_X4_statement_b51 Φ st x1 z0) : X θ κ Ph st 51 [(0, .ref (ad θ 175)), (1, .int x1)] [.int z0] := by
  unfold w_X4_statement_b51 at h
  refine X_istore_n C dX4_statement_51 rfl (lo2 := [(2, _), (0, _), (1, _)]) (by decide) rfl ?_
  refine X_aload_n C dX4_statement_52 rfl 1 rfl (isRV_r _) ?_
  refine X_getF (ci := 4) (j := 1) (q := (RX4, TX4, 54)) C rfl (by decide) q1767 rfl dX4_statement_53 (b := 177) (LX_S hX (k := 175) rfl) (LX_F hX (k := 175) (j := 1) rfl) rfl ?_
  refine X_iload_n C dX4_statement_56 rfl 2 rfl ?_
  refine X_if_eq (tgt := 64) C dX4_statement_57 (by decide) (fun c39 => ?_) (fun c39 => ?_)
  · have h := h.1 c39
    refine X_iconst (v := 1) C dX4_statement_64 rfl ?_
    refine X_sub [1, 0] (lo2 := [(0, _), (2, _)]) rfl ?_
    exact t_X4_statement_b65 hX hd C hn st z0 1 h
  · have h := h.2 c39
    refine X_iconst (v := 0) C dX4_statement_60 rfl ?_
    refine X_goto (tgt := 65) C dX4_statement_61 (by decide) ?_
    refine X_sub [1, 0] (lo2 := [(0, _), (2, _)]) rfl ?_
    exact t_X4_statement_b65 hX hd C hn st z0 0 h
def w_X4_statement_b20 (Φ : St → Prop) (st : St) : Prop := w_X4_isWord st (gBIG + 2 * 2) (fun (r14 : Int32) => w_X4_goesOn st (fun (s23 : St) => ((r14 = 0) → w_X4_takes_2 s23 1 4 (fun (s32 : St) (r31 : Int32) => w_X4_statement_b51 Φ s32 r14 r31)) ∧ ((¬ r14 = 0) → w_X4_takes_2 s23 2 3 (fun (s50 : St) (r49 : Int32) => w_X4_statement_b51 Φ s50 r14 r49))))
theorem t_X4_statement_b20 {θ : Th} {κ : Kx} {Ph : Ph} (hX : LX θ) {d : Nat} (hd : 23 ≤ d) (C : Cx θ κ yX4_statement cX4_statement 3 (none : Option Jvm.ClassFile.FieldType) [] d) {Φ : St → Prop} (hn : ∀ st, Φ st → Ph.1 st none) (st : St) (h : w_X4_statement_b20 Φ st) : X θ κ Ph st 20 [(0, .ref (ad θ 175))] [] := by
  unfold w_X4_statement_b20 at h
  refine X_aload_n C dX4_statement_20 rfl 0 rfl (isRV_r _) ?_
  refine X_ldcws (tx := "states") (i := 2) C (by decide +kernel) dX4_statement_21 ?_
  refine X_con (fun hc12 => ?_)
  have hs13 : sh st (gBIG + 2 * 2) = 10 := con_str hc12 (by decide)
  refine X_callVS (ci := 4) (q := (RX4, TX4, 54)) (As := [_]) (rest := []) C rfl (LX_S hX (k := 175) rfl) q2246 q2248 qs108 q136 q2249 ⟨rfl, nm_X4_isWord⟩ rfl dX4_statement_24 (m_X4_isWord (Cx_l C) hX (d := d - 1) (by omega) st (gBIG + 2 * 2) hs13 h) (by omega) (by decide) (Nat.le_of_ble_eq_true rfl) (fun s20 w15 hE16 hP17 => ?_) (fun s21 E18 q19 hE16 hP17 => ?_)
  rotate_left
  · exact False.elim hP17
  obtain ⟨r14, rfl, rfl, h⟩ := hP17
  refine X_tls ?_
  refine X_istore_n C dX4_statement_27 rfl (lo2 := [(1, _), (0, _)]) (by decide) rfl ?_
  refine X_aload_n C dX4_statement_28 rfl 1 rfl (isRV_r _) ?_
  refine X_callVS (ci := 4) (q := (RX4, TX4, 54)) (As := []) (rest := []) C rfl (LX_S hX (k := 175) rfl) q2225 q2227 qs103 q136 q2228 ⟨rfl, nm_X4_goesOn⟩ rfl dX4_statement_29 (m_X4_goesOn (Cx_l C) hX (d := d - 1) (by omega) st h) (by omega) (by decide) (Nat.le_of_ble_eq_true rfl) (fun s23 w24 hE25 hP26 => ?_) (fun s29 E27 q28 hE25 hP26 => ?_)
  rotate_left
  · exact False.elim hP26
  obtain ⟨rfl, h⟩ := hP26
  refine X_tln ?_
  have hs13 := Ext_sh hE25 hs13 (by decide)
  refine X_iload_n C dX4_statement_32 rfl 0 rfl ?_
  refine X_if_eq (tgt := 45) C dX4_statement_33 (by decide) (fun c30 => ?_) (fun c30 => ?_)
  · have h := h.1 c30
    refine X_aload_n C dX4_statement_45 rfl 1 rfl (isRV_r _) ?_
    refine X_iconst (v := 1) C dX4_statement_46 rfl ?_
    refine X_iconst (v := 4) C dX4_statement_47 rfl ?_
    refine X_callVS (ci := 4) (q := (RX4, TX4, 54)) (As := [_, _]) (rest := []) C rfl (LX_S hX (k := 175) rfl) q2253 q2255 qs109 q136 q2256 ⟨rfl, nm_X4_takes_2⟩ rfl dX4_statement_48 (m_X4_takes_2 (Cx_l C) hX (d := d - 1) (by omega) s23 1 4 h) (by omega) (by decide) (Nat.le_of_ble_eq_true rfl) (fun s32 w33 hE34 hP35 => ?_) (fun s38 E36 q37 hE34 hP35 => ?_)
    rotate_left
    · exact False.elim hP35
    obtain ⟨r31, rfl, h⟩ := hP35
    refine X_tls ?_
    have hs13 := Ext_sh hE34 hs13 (by decide)
    refine X_sub [1, 0] (lo2 := [(0, _), (1, _)]) rfl ?_
    exact t_X4_statement_b51 hX hd C hn s32 r14 r31 h
  · have h := h.2 c30
    refine X_aload_n C dX4_statement_36 rfl 1 rfl (isRV_r _) ?_
    refine X_iconst (v := 2) C dX4_statement_37 rfl ?_
    refine X_iconst (v := 3) C dX4_statement_38 rfl ?_
    refine X_callVS (ci := 4) (q := (RX4, TX4, 54)) (As := [_, _]) (rest := []) C rfl (LX_S hX (k := 175) rfl) q2253 q2255 qs109 q136 q2256 ⟨rfl, nm_X4_takes_2⟩ rfl dX4_statement_39 (m_X4_takes_2 (Cx_l C) hX (d := d - 1) (by omega) s23 2 3 h) (by omega) (by decide) (Nat.le_of_ble_eq_true rfl) (fun s50 w51 hE52 hP53 => ?_) (fun s56 E54 q55 hE52 hP53 => ?_)
    rotate_left
    · exact False.elim hP53
    obtain ⟨r49, rfl, h⟩ := hP53
    refine X_tls ?_
    have hs13 := Ext_sh hE52 hs13 (by decide)
    refine X_goto (tgt := 51) C dX4_statement_42 (by decide) ?_
    refine X_sub [1, 0] (lo2 := [(0, _), (1, _)]) rfl ?_
    exact t_X4_statement_b51 hX hd C hn s50 r14 r49 h
def w_X4_statement_l162 (Φ : St → Prop) (E223 : St → Prop) : Nat → St → Int32 → Int32 → Prop
  | 0, _, _, _ => False
  | n + 1, st, x1, x2 => ((((sI st 177 2) * (sI st 177 3)) ≤ x2) → E223 st) ∧ ((¬ ((sI st 177 2) * (sI st 177 3)) ≤ x2) → ((0 ≤ (sI st 175 50)) → E223 st) ∧ ((¬ 0 ≤ (sI st 175 50)) → ¬ (sI st 177 3) = 0 ∧ w_X4_place x1 (x2 / (sI st 177 3)) (x2 - x2 / (sI st 177 3) * (sI st 177 3)) (fun (r221 : Int32) => w_X4_takesSigned st 20 (fun (s230 : St) (r229 : Int32) => vp_in r221 97 ∧ ∀ s238, s238 = putI s230 177 (r221.toNatClampNeg) r229 → w_X4_statement_l162 Φ E223 n s238 x1 (x2 + 1)))))
theorem t_X4_statement_l162 {θ : Th} {κ : Kx} {Ph : Ph} (hX : LX θ) {d : Nat} (hd : 23 ≤ d) (C : Cx θ κ yX4_statement cX4_statement 3 (none : Option Jvm.ClassFile.FieldType) [] d) {Φ : St → Prop} (hn : ∀ st, Φ st → Ph.1 st none) {E223 : St → Prop} (hE223 : ∀ (st : St), E223 st → X θ κ Ph st 223 [] []) : ∀ (n : Nat) (st : St) (x1 : Int32) (x2 : Int32), w_X4_statement_l162 Φ E223 n st x1 x2 → X θ κ Ph st 162 [(0, .ref (ad θ 175)), (1, .int x1), (2, .int x2)] [] := by
  intro n
  induction n with
  | zero => intro st x1 x2 h; exact h.elim
  | succ n hK162 =>
    intro st x1 x2 h
    rw [w_X4_statement_l162] at h
    refine X_iload_n C dX4_statement_162 rfl 2 rfl ?_
    refine X_aload_n C dX4_statement_163 rfl 0 rfl (isRV_r _) ?_
    refine X_getF (ci := 4) (j := 1) (q := (RX4, TX4, 54)) C rfl (by decide) q1767 rfl dX4_statement_164 (b := 177) (LX_S hX (k := 175) rfl) (LX_F hX (k := 175) (j := 1) rfl) rfl ?_
    refine X_iconst (v := 2) C dX4_statement_167 rfl ?_
    refine X_ialdS C (LX_S hX (k := 177) rfl) (LX_L hX (k := 177) rfl) (vp_dec rfl) rfl dX4_statement_168 ?_
    refine X_aload_n C dX4_statement_169 rfl 0 rfl (isRV_r _) ?_
    refine X_getF (ci := 4) (j := 1) (q := (RX4, TX4, 54)) C rfl (by decide) q1767 rfl dX4_statement_170 (b := 177) (LX_S hX (k := 175) rfl) (LX_F hX (k := 175) (j := 1) rfl) rfl ?_
    refine X_iconst (v := 3) C dX4_statement_173 rfl ?_
    refine X_ialdS C (LX_S hX (k := 177) rfl) (LX_L hX (k := 177) rfl) (vp_dec rfl) rfl dX4_statement_174 ?_
    refine X_imul C dX4_statement_175 ?_
    refine X_icmp_ge (tgt := 223) C dX4_statement_176 (by decide) (fun c218 => ?_) (fun c218 => ?_)
    · have h := h.1 c218
      refine X_sub [] (lo2 := []) rfl ?_
      exact hE223 st h
    · have h := h.2 c218
      refine X_aload_n C dX4_statement_179 rfl 0 rfl (isRV_r _) ?_
      refine X_getS (ci := 4) (j := 50) (q := (RX4, TX4, 54)) C rfl (by decide) q1816 rfl dX4_statement_180 (LX_S hX (k := 175) rfl) (v := .int (sI st 175 50)) rfl ?_
      refine X_if_ge (tgt := 223) C dX4_statement_183 (by decide) (fun c219 => ?_) (fun c219 => ?_)
      · have h := h.1 c219
        refine X_sub [] (lo2 := []) rfl ?_
        exact hE223 st h
      · have h := h.2 c219
        refine X_aload_n C dX4_statement_186 rfl 0 rfl (isRV_r _) ?_
        refine X_getF (ci := 4) (j := 1) (q := (RX4, TX4, 54)) C rfl (by decide) q1767 rfl dX4_statement_187 (b := 177) (LX_S hX (k := 175) rfl) (LX_F hX (k := 175) (j := 1) rfl) rfl ?_
        refine X_iload_n C dX4_statement_190 rfl 1 rfl ?_
        refine X_iload_n C dX4_statement_191 rfl 2 rfl ?_
        refine X_aload_n C dX4_statement_192 rfl 0 rfl (isRV_r _) ?_
        refine X_getF (ci := 4) (j := 1) (q := (RX4, TX4, 54)) C rfl (by decide) q1767 rfl dX4_statement_193 (b := 177) (LX_S hX (k := 175) rfl) (LX_F hX (k := 175) (j := 1) rfl) rfl ?_
        refine X_iconst (v := 3) C dX4_statement_196 rfl ?_
        refine X_ialdS C (LX_S hX (k := 177) rfl) (LX_L hX (k := 177) rfl) (vp_dec rfl) rfl dX4_statement_197 ?_
        have g220 := h.1
        have h := h.2
        refine X_idiv C dX4_statement_198 g220 ?_
        refine X_iload_n C dX4_statement_199 rfl 2 rfl ?_
        refine X_aload_n C dX4_statement_200 rfl 0 rfl (isRV_r _) ?_
        refine X_getF (ci := 4) (j := 1) (q := (RX4, TX4, 54)) C rfl (by decide) q1767 rfl dX4_statement_201 (b := 177) (LX_S hX (k := 175) rfl) (LX_F hX (k := 175) (j := 1) rfl) rfl ?_
        refine X_iconst (v := 3) C dX4_statement_204 rfl ?_
        refine X_ialdS C (LX_S hX (k := 177) rfl) (LX_L hX (k := 177) rfl) (vp_dec rfl) rfl dX4_statement_205 ?_
        refine X_irem C dX4_statement_206 g220 ?_
        refine X_callS (As := [_, _, _]) (rest := [_]) C q1966 q1967 q136 q1968 nm_X4_place rfl dX4_statement_207 (m_X4_place (Cx_l C) hX (d := d - 1) (by omega) st x1 (x2 / (sI st 177 3)) (x2 - x2 / (sI st 177 3) * (sI st 177 3)) h) (by omega) (by decide) (Nat.le_of_ble_eq_true rfl) (fun s227 w222 hE223 hP224 => ?_) (fun s228 E225 q226 hE223 hP224 => ?_)
        rotate_left
        · exact False.elim hP224
        obtain ⟨r221, rfl, rfl, h⟩ := hP224
        refine X_tls ?_
        refine X_aload_n C dX4_statement_210 rfl 0 rfl (isRV_r _) ?_
        refine X_bipush (v := 20) C dX4_statement_211 rfl ?_
        refine X_callVS (ci := 4) (q := (RX4, TX4, 54)) (As := [_]) (rest := [_, _]) C rfl (LX_S hX (k := 175) rfl) q2259 q2261 qs110 q136 q2262 ⟨rfl, nm_X4_takesSigned⟩ rfl dX4_statement_213 (m_X4_takesSigned (Cx_l C) hX (d := d - 1) (by omega) st 20 h) (by omega) (by decide) (Nat.le_of_ble_eq_true rfl) (fun s230 w231 hE232 hP233 => ?_) (fun s236 E234 q235 hE232 hP233 => ?_)
        rotate_left
        · exact False.elim hP233
        obtain ⟨r229, rfl, h⟩ := hP233
        refine X_tls ?_
        have g237 := h.1
        have h := h.2
        refine X_iastS C (LX_S hX (k := 177) rfl) (LX_L hX (k := 177) rfl) g237 rfl dX4_statement_216 ?_
        refine X_nm (fun s238 e239 => ?_)
        have h := h s238 e239
        refine X_iinc (v := (x2 + 1)) C (j := 2) dX4_statement_217 rfl rfl (lo2 := [(2, _), (0, _), (1, _)]) (by decide) rfl ?_
        refine X_goto (tgt := 162) C dX4_statement_220 (by decide) ?_
        refine X_sub [1, 2, 0] (lo2 := [(0, _), (1, _), (2, _)]) rfl ?_
        exact hK162 s238 x1 (x2 + 1) h
def w_X4_statement_b223 (Φ : St → Prop) (st : St) : Prop := Φ st
theorem t_X4_statement_b223 {θ : Th} {κ : Kx} {Ph : Ph} (hX : LX θ) {d : Nat} (hd : 23 ≤ d) (C : Cx θ κ yX4_statement cX4_statement 3 (none : Option Jvm.ClassFile.FieldType) [] d) {Φ : St → Prop} (hn : ∀ st, Φ st → Ph.1 st none) (st : St) (h : w_X4_statement_b223 Φ st) : X θ κ Ph st 223 [] [] := by
  unfold w_X4_statement_b223 at h
  refine X_goto (tgt := 345) C dX4_statement_223 (by decide) ?_
  exact X_vret C rfl dX4_statement_345 (hn st h)
def w_X4_statement (st : St) (Φ : St → Prop) : Prop := w_X4_isWord st (gBIG + 2 * 2) (fun (r3 : Int32) => ((r3 ≠ 0) → w_X4_statement_b20 Φ st) ∧ ((r3 = 0) → w_X4_isWord st (gBIG + 2 * 3) (fun (r59 : Int32) => ((r59 = 0) → w_X4_isWord st (gBIG + 2 * 4) (fun (r70 : Int32) => ((r70 = 0) → w_X4_isWord st (gBIG + 2 * 5) (fun (r81 : Int32) => ((r81 = 0) → w_X4_isWord st (gBIG + 2 * 6) (fun (r92 : Int32) => ((r92 = 0) → w_X4_isWord st (gBIG + 2 * 7) (fun (r103 : Int32) => ((r103 = 0) → w_X4_isWord st (gBIG + 2 * 8) (fun (r114 : Int32) => ((r114 = 0) → w_X4_fails st (fun (s124 : St) => Φ s124)) ∧ ((¬ r114 = 0) → w_X4_goesOn st (fun (s132 : St) => ∀ s139, s139 = putI s132 177 35 0 → (w_X4_node_f 8) s139 (-1) 0 (fun (s142 : St) (r141 : Int32) => Φ s142))))) ∧ ((¬ r103 = 0) → w_X4_goesOn st (fun (s150 : St) => w_X4_takes_2 s150 0 ((sI s150 177 0) - 1) (fun (s158 : St) (r157 : Int32) => w_X4_takesSigned s158 99 (fun (s166 : St) (r165 : Int32) => vp_in (32 + r157) 97 ∧ ∀ s174, s174 = putI s166 177 ((32 + r157).toNatClampNeg) r165 → Φ s174)))))) ∧ ((¬ r92 = 0) → w_X4_goesOn st (fun (s177 : St) => w_X4_points s177 (fun (r184 : Int32) => w_X4_takes_2 s177 0 (r184 - 1) (fun (s193 : St) (r192 : Int32) => ∀ s200, s200 = putI s193 177 31 r192 → Φ s200)))))) ∧ ((¬ r81 = 0) → w_X4_goesOn st (fun (s203 : St) => w_X4_takes_2 s203 0 ((sI s203 177 0) - 1) (fun (s211 : St) (r210 : Int32) => w_X4_statement_l162 Φ (fun (s240 : St) => w_X4_statement_b223 Φ s240) gFU s211 r210 0))))) ∧ ((¬ r70 = 0) → w_X4_goesOn st (fun (s242 : St) => w_X4_takes_2 s242 1 3 (fun (s250 : St) (r249 : Int32) => ∀ s257, s257 = putI s250 177 2 r249 → w_X4_takes_2 s257 1 3 (fun (s260 : St) (r259 : Int32) => ∀ s267, s267 = putI s260 177 3 r259 → Φ s267)))))) ∧ ((¬ r59 = 0) → w_X4_statement_b20 Φ st))))
theorem e_X4_statement : plainFor yX4_statement = true := plainFor_of_name (by decide +kernel)
theorem m_X4_statement {θ : Th} {l : Launch} (hl0 : l.stackTraces = false) (hX : LX θ) {d : Nat} (hd : 23 ≤ d) (st : St) {Φ : St → Prop} (h : w_X4_statement st Φ) : Ct θ l yX4_statement (ws_ yX4_statement cX4_statement 3 (none : Option Jvm.ClassFile.FieldType)) d [.ref (ad θ 175)] st (pV Φ, noX) := by
  refine Ct_entry hl0 e_X4_statement (Nat.le_of_ble_eq_true rfl) (fun κ hκ _ C => ?_)
  have hn : ∀ st, Φ st → ((pV Φ, noX) : Ph).1 st none := fun st q => ⟨rfl, q⟩
  change X _ _ _ _ _ [(0, .ref (ad θ 175))] _
  unfold w_X4_statement at h
  refine X_aload_n C dX4_statement_0 rfl 0 rfl (isRV_r _) ?_
  refine X_ldcws (tx := "states") (i := 2) C (by decide +kernel) dX4_statement_1 ?_
  refine X_con (fun hc1 => ?_)
  have hs2 : sh st (gBIG + 2 * 2) = 10 := con_str hc1 (by decide)
  refine X_callVS (ci := 4) (q := (RX4, TX4, 54)) (As := [_]) (rest := []) C rfl (LX_S hX (k := 175) rfl) q2246 q2248 qs108 q136 q2249 ⟨rfl, nm_X4_isWord⟩ rfl dX4_statement_4 (m_X4_isWord (Cx_l C) hX (d := d - 1) (by omega) st (gBIG + 2 * 2) hs2 h) (by omega) (by decide) (Nat.le_of_ble_eq_true rfl) (fun s9 w4 hE5 hP6 => ?_) (fun s10 E7 q8 hE5 hP6 => ?_)
  rotate_left
  · exact False.elim hP6
  obtain ⟨r3, rfl, rfl, h⟩ := hP6
  refine X_tls ?_
  refine X_if_ne (tgt := 20) C dX4_statement_7 (by decide) (fun c11 => ?_) (fun c11 => ?_)
  · have h := h.1 c11
    exact t_X4_statement_b20 hX hd C hn st h
  · have h := h.2 c11
    refine X_aload_n C dX4_statement_10 rfl 0 rfl (isRV_r _) ?_
    refine X_ldcws (tx := "parts") (i := 3) C (by decide +kernel) dX4_statement_11 ?_
    refine X_con (fun hc57 => ?_)
    have hs58 : sh st (gBIG + 2 * 3) = 10 := con_str hc57 (by decide)
    refine X_callVS (ci := 4) (q := (RX4, TX4, 54)) (As := [_]) (rest := []) C rfl (LX_S hX (k := 175) rfl) q2246 q2248 qs108 q136 q2249 ⟨rfl, nm_X4_isWord⟩ rfl dX4_statement_14 (m_X4_isWord (Cx_l C) hX (d := d - 1) (by omega) st (gBIG + 2 * 3) hs58 h) (by omega) (by decide) (Nat.le_of_ble_eq_true rfl) (fun s65 w60 hE61 hP62 => ?_) (fun s66 E63 q64 hE61 hP62 => ?_)
    rotate_left
    · exact False.elim hP62
    obtain ⟨r59, rfl, rfl, h⟩ := hP62
    refine X_tls ?_
    refine X_if_eq (tgt := 91) C dX4_statement_17 (by decide) (fun c67 => ?_) (fun c67 => ?_)
    · have h := h.1 c67
      refine X_aload_n C dX4_statement_91 rfl 0 rfl (isRV_r _) ?_
      refine X_ldcws (tx := "size") (i := 4) C (by decide +kernel) dX4_statement_92 ?_
      refine X_con (fun hc68 => ?_)
      have hs69 : sh st (gBIG + 2 * 4) = 10 := con_str hc68 (by decide)
      refine X_callVS (ci := 4) (q := (RX4, TX4, 54)) (As := [_]) (rest := []) C rfl (LX_S hX (k := 175) rfl) q2246 q2248 qs108 q136 q2249 ⟨rfl, nm_X4_isWord⟩ rfl dX4_statement_95 (m_X4_isWord (Cx_l C) hX (d := d - 1) (by omega) st (gBIG + 2 * 4) hs69 h) (by omega) (by decide) (Nat.le_of_ble_eq_true rfl) (fun s76 w71 hE72 hP73 => ?_) (fun s77 E74 q75 hE72 hP73 => ?_)
      rotate_left
      · exact False.elim hP73
      obtain ⟨r70, rfl, rfl, h⟩ := hP73
      refine X_tls ?_
      refine X_if_eq (tgt := 132) C dX4_statement_98 (by decide) (fun c78 => ?_) (fun c78 => ?_)
      · have h := h.1 c78
        refine X_aload_n C dX4_statement_132 rfl 0 rfl (isRV_r _) ?_
        refine X_ldcws (tx := "game") (i := 5) C (by decide +kernel) dX4_statement_133 ?_
        refine X_con (fun hc79 => ?_)
        have hs80 : sh st (gBIG + 2 * 5) = 10 := con_str hc79 (by decide)
        refine X_callVS (ci := 4) (q := (RX4, TX4, 54)) (As := [_]) (rest := []) C rfl (LX_S hX (k := 175) rfl) q2246 q2248 qs108 q136 q2249 ⟨rfl, nm_X4_isWord⟩ rfl dX4_statement_136 (m_X4_isWord (Cx_l C) hX (d := d - 1) (by omega) st (gBIG + 2 * 5) hs80 h) (by omega) (by decide) (Nat.le_of_ble_eq_true rfl) (fun s87 w82 hE83 hP84 => ?_) (fun s88 E85 q86 hE83 hP84 => ?_)
        rotate_left
        · exact False.elim hP84
        obtain ⟨r81, rfl, rfl, h⟩ := hP84
        refine X_tls ?_
        refine X_if_eq (tgt := 226) C dX4_statement_139 (by decide) (fun c89 => ?_) (fun c89 => ?_)
        · have h := h.1 c89
          refine X_aload_n C dX4_statement_226 rfl 0 rfl (isRV_r _) ?_
          refine X_ldcws (tx := "prior") (i := 6) C (by decide +kernel) dX4_statement_227 ?_
          refine X_con (fun hc90 => ?_)
          have hs91 : sh st (gBIG + 2 * 6) = 10 := con_str hc90 (by decide)
          refine X_callVS (ci := 4) (q := (RX4, TX4, 54)) (As := [_]) (rest := []) C rfl (LX_S hX (k := 175) rfl) q2246 q2248 qs108 q136 q2249 ⟨rfl, nm_X4_isWord⟩ rfl dX4_statement_230 (m_X4_isWord (Cx_l C) hX (d := d - 1) (by omega) st (gBIG + 2 * 6) hs91 h) (by omega) (by decide) (Nat.le_of_ble_eq_true rfl) (fun s98 w93 hE94 hP95 => ?_) (fun s99 E96 q97 hE94 hP95 => ?_)
          rotate_left
          · exact False.elim hP95
          obtain ⟨r92, rfl, rfl, h⟩ := hP95
          refine X_tls ?_
          refine X_if_eq (tgt := 261) C dX4_statement_233 (by decide) (fun c100 => ?_) (fun c100 => ?_)
          · have h := h.1 c100
            refine X_aload_n C dX4_statement_261 rfl 0 rfl (isRV_r _) ?_
            refine X_ldcws (tx := "target") (i := 7) C (by decide +kernel) dX4_statement_262 ?_
            refine X_con (fun hc101 => ?_)
            have hs102 : sh st (gBIG + 2 * 7) = 10 := con_str hc101 (by decide)
            refine X_callVS (ci := 4) (q := (RX4, TX4, 54)) (As := [_]) (rest := []) C rfl (LX_S hX (k := 175) rfl) q2246 q2248 qs108 q136 q2249 ⟨rfl, nm_X4_isWord⟩ rfl dX4_statement_265 (m_X4_isWord (Cx_l C) hX (d := d - 1) (by omega) st (gBIG + 2 * 7) hs102 h) (by omega) (by decide) (Nat.le_of_ble_eq_true rfl) (fun s109 w104 hE105 hP106 => ?_) (fun s110 E107 q108 hE105 hP106 => ?_)
            rotate_left
            · exact False.elim hP106
            obtain ⟨r103, rfl, rfl, h⟩ := hP106
            refine X_tls ?_
            refine X_if_eq (tgt := 309) C dX4_statement_268 (by decide) (fun c111 => ?_) (fun c111 => ?_)
            · have h := h.1 c111
              refine X_aload_n C dX4_statement_309 rfl 0 rfl (isRV_r _) ?_
              refine X_ldcws (tx := "tree") (i := 8) C (by decide +kernel) dX4_statement_310 ?_
              refine X_con (fun hc112 => ?_)
              have hs113 : sh st (gBIG + 2 * 8) = 10 := con_str hc112 (by decide)
              refine X_callVS (ci := 4) (q := (RX4, TX4, 54)) (As := [_]) (rest := []) C rfl (LX_S hX (k := 175) rfl) q2246 q2248 qs108 q136 q2249 ⟨rfl, nm_X4_isWord⟩ rfl dX4_statement_313 (m_X4_isWord (Cx_l C) hX (d := d - 1) (by omega) st (gBIG + 2 * 8) hs113 h) (by omega) (by decide) (Nat.le_of_ble_eq_true rfl) (fun s120 w115 hE116 hP117 => ?_) (fun s121 E118 q119 hE116 hP117 => ?_)
              rotate_left
              · exact False.elim hP117
              obtain ⟨r114, rfl, rfl, h⟩ := hP117
              refine X_tls ?_
              refine X_if_eq (tgt := 341) C dX4_statement_316 (by decide) (fun c122 => ?_) (fun c122 => ?_)
              · have h := h.1 c122
                refine X_aload_n C dX4_statement_341 rfl 0 rfl (isRV_r _) ?_
                refine X_callVS (ci := 4) (q := (RX4, TX4, 54)) (As := []) (rest := []) C rfl (LX_S hX (k := 175) rfl) q2237 q2239 qs106 q136 q2240 ⟨rfl, nm_X4_fails⟩ rfl dX4_statement_342 (m_X4_fails (Cx_l C) hX (d := d - 1) (by omega) st h) (by omega) (by decide) (Nat.le_of_ble_eq_true rfl) (fun s124 w125 hE126 hP127 => ?_) (fun s130 E128 q129 hE126 hP127 => ?_)
                rotate_left
                · exact False.elim hP127
                obtain ⟨rfl, h⟩ := hP127
                refine X_tln ?_
                have hs2 := Ext_sh hE126 hs2 (by decide)
                have hs58 := Ext_sh hE126 hs58 (by decide)
                have hs69 := Ext_sh hE126 hs69 (by decide)
                have hs80 := Ext_sh hE126 hs80 (by decide)
                have hs91 := Ext_sh hE126 hs91 (by decide)
                have hs102 := Ext_sh hE126 hs102 (by decide)
                have hs113 := Ext_sh hE126 hs113 (by decide)
                exact X_vret C rfl dX4_statement_345 (hn s124 h)
              · have h := h.2 c122
                refine X_aload_n C dX4_statement_319 rfl 0 rfl (isRV_r _) ?_
                refine X_callVS (ci := 4) (q := (RX4, TX4, 54)) (As := []) (rest := []) C rfl (LX_S hX (k := 175) rfl) q2225 q2227 qs103 q136 q2228 ⟨rfl, nm_X4_goesOn⟩ rfl dX4_statement_320 (m_X4_goesOn (Cx_l C) hX (d := d - 1) (by omega) st h) (by omega) (by decide) (Nat.le_of_ble_eq_true rfl) (fun s132 w133 hE134 hP135 => ?_) (fun s138 E136 q137 hE134 hP135 => ?_)
                rotate_left
                · exact False.elim hP135
                obtain ⟨rfl, h⟩ := hP135
                refine X_tln ?_
                have hs2 := Ext_sh hE134 hs2 (by decide)
                have hs58 := Ext_sh hE134 hs58 (by decide)
                have hs69 := Ext_sh hE134 hs69 (by decide)
                have hs80 := Ext_sh hE134 hs80 (by decide)
                have hs91 := Ext_sh hE134 hs91 (by decide)
                have hs102 := Ext_sh hE134 hs102 (by decide)
                have hs113 := Ext_sh hE134 hs113 (by decide)
                refine X_aload_n C dX4_statement_323 rfl 0 rfl (isRV_r _) ?_
                refine X_getF (ci := 4) (j := 1) (q := (RX4, TX4, 54)) C rfl (by decide) q1767 rfl dX4_statement_324 (b := 177) (LX_S hX (k := 175) rfl) (LX_F hX (k := 175) (j := 1) rfl) rfl ?_
                refine X_bipush (v := 35) C dX4_statement_327 rfl ?_
                refine X_iconst (v := 0) C dX4_statement_329 rfl ?_
                refine X_iastS C (LX_S hX (k := 177) rfl) (LX_L hX (k := 177) rfl) (vp_dec rfl) rfl dX4_statement_330 ?_
                refine X_nm (fun s139 e140 => ?_)
                have h := h s139 e140
                have hs2 : sh s139 (gBIG + 2 * 2) = 10 := by rw [e140]; exact hs2
                have hs58 : sh s139 (gBIG + 2 * 3) = 10 := by rw [e140]; exact hs58
                have hs69 : sh s139 (gBIG + 2 * 4) = 10 := by rw [e140]; exact hs69
                have hs80 : sh s139 (gBIG + 2 * 5) = 10 := by rw [e140]; exact hs80
                have hs91 : sh s139 (gBIG + 2 * 6) = 10 := by rw [e140]; exact hs91
                have hs102 : sh s139 (gBIG + 2 * 7) = 10 := by rw [e140]; exact hs102
                have hs113 : sh s139 (gBIG + 2 * 8) = 10 := by rw [e140]; exact hs113
                refine X_aload_n C dX4_statement_331 rfl 0 rfl (isRV_r _) ?_
                refine X_iconst (v := (-1)) C dX4_statement_332 rfl ?_
                refine X_iconst (v := 0) C dX4_statement_333 rfl ?_
                refine X_callVS (ci := 4) (q := (RX4, TX4, 54)) (As := [_, _]) (rest := []) C rfl (LX_S hX (k := 175) rfl) q2270 q2272 qs112 q136 q2273 ⟨rfl, nm_X4_node⟩ rfl dX4_statement_334 (m_X4_node_f (Cx_l C) hX 8 (d := d - 1) (by omega) s139 (-1) 0 h) (by omega) (by decide) (Nat.le_of_ble_eq_true rfl) (fun s142 w143 hE144 hP145 => ?_) (fun s148 E146 q147 hE144 hP145 => ?_)
                rotate_left
                · exact False.elim hP145
                obtain ⟨r141, rfl, h⟩ := hP145
                refine X_tls ?_
                have hs2 := Ext_sh hE144 hs2 (by decide)
                have hs58 := Ext_sh hE144 hs58 (by decide)
                have hs69 := Ext_sh hE144 hs69 (by decide)
                have hs80 := Ext_sh hE144 hs80 (by decide)
                have hs91 := Ext_sh hE144 hs91 (by decide)
                have hs102 := Ext_sh hE144 hs102 (by decide)
                have hs113 := Ext_sh hE144 hs113 (by decide)
                refine X_pop C dX4_statement_337 rfl ?_
                refine X_goto (tgt := 345) C dX4_statement_338 (by decide) ?_
                exact X_vret C rfl dX4_statement_345 (hn s142 h)
            · have h := h.2 c111
              refine X_aload_n C dX4_statement_271 rfl 0 rfl (isRV_r _) ?_
              refine X_callVS (ci := 4) (q := (RX4, TX4, 54)) (As := []) (rest := []) C rfl (LX_S hX (k := 175) rfl) q2225 q2227 qs103 q136 q2228 ⟨rfl, nm_X4_goesOn⟩ rfl dX4_statement_272 (m_X4_goesOn (Cx_l C) hX (d := d - 1) (by omega) st h) (by omega) (by decide) (Nat.le_of_ble_eq_true rfl) (fun s150 w151 hE152 hP153 => ?_) (fun s156 E154 q155 hE152 hP153 => ?_)
              rotate_left
              · exact False.elim hP153
              obtain ⟨rfl, h⟩ := hP153
              refine X_tln ?_
              have hs2 := Ext_sh hE152 hs2 (by decide)
              have hs58 := Ext_sh hE152 hs58 (by decide)
              have hs69 := Ext_sh hE152 hs69 (by decide)
              have hs80 := Ext_sh hE152 hs80 (by decide)
              have hs91 := Ext_sh hE152 hs91 (by decide)
              have hs102 := Ext_sh hE152 hs102 (by decide)
              refine X_aload_n C dX4_statement_275 rfl 0 rfl (isRV_r _) ?_
              refine X_iconst (v := 0) C dX4_statement_276 rfl ?_
              refine X_aload_n C dX4_statement_277 rfl 0 rfl (isRV_r _) ?_
              refine X_getF (ci := 4) (j := 1) (q := (RX4, TX4, 54)) C rfl (by decide) q1767 rfl dX4_statement_278 (b := 177) (LX_S hX (k := 175) rfl) (LX_F hX (k := 175) (j := 1) rfl) rfl ?_
              refine X_iconst (v := 0) C dX4_statement_281 rfl ?_
              refine X_ialdS C (LX_S hX (k := 177) rfl) (LX_L hX (k := 177) rfl) (vp_dec rfl) rfl dX4_statement_282 ?_
              refine X_iconst (v := 1) C dX4_statement_283 rfl ?_
              refine X_isub C dX4_statement_284 ?_
              refine X_callVS (ci := 4) (q := (RX4, TX4, 54)) (As := [_, _]) (rest := []) C rfl (LX_S hX (k := 175) rfl) q2253 q2255 qs109 q136 q2256 ⟨rfl, nm_X4_takes_2⟩ rfl dX4_statement_285 (m_X4_takes_2 (Cx_l C) hX (d := d - 1) (by omega) s150 0 ((sI s150 177 0) - 1) h) (by omega) (by decide) (Nat.le_of_ble_eq_true rfl) (fun s158 w159 hE160 hP161 => ?_) (fun s164 E162 q163 hE160 hP161 => ?_)
              rotate_left
              · exact False.elim hP161
              obtain ⟨r157, rfl, h⟩ := hP161
              refine X_tls ?_
              have hs2 := Ext_sh hE160 hs2 (by decide)
              have hs58 := Ext_sh hE160 hs58 (by decide)
              have hs69 := Ext_sh hE160 hs69 (by decide)
              have hs80 := Ext_sh hE160 hs80 (by decide)
              have hs91 := Ext_sh hE160 hs91 (by decide)
              have hs102 := Ext_sh hE160 hs102 (by decide)
              refine X_istore_n C dX4_statement_288 rfl (lo2 := [(1, _), (0, _)]) (by decide) rfl ?_
              refine X_aload_n C dX4_statement_289 rfl 1 rfl (isRV_r _) ?_
              refine X_bipush (v := 99) C dX4_statement_290 rfl ?_
              refine X_callVS (ci := 4) (q := (RX4, TX4, 54)) (As := [_]) (rest := []) C rfl (LX_S hX (k := 175) rfl) q2259 q2261 qs110 q136 q2262 ⟨rfl, nm_X4_takesSigned⟩ rfl dX4_statement_292 (m_X4_takesSigned (Cx_l C) hX (d := d - 1) (by omega) s158 99 h) (by omega) (by decide) (Nat.le_of_ble_eq_true rfl) (fun s166 w167 hE168 hP169 => ?_) (fun s172 E170 q171 hE168 hP169 => ?_)
              rotate_left
              · exact False.elim hP169
              obtain ⟨r165, rfl, h⟩ := hP169
              refine X_tls ?_
              have hs2 := Ext_sh hE168 hs2 (by decide)
              have hs58 := Ext_sh hE168 hs58 (by decide)
              have hs69 := Ext_sh hE168 hs69 (by decide)
              have hs80 := Ext_sh hE168 hs80 (by decide)
              have hs91 := Ext_sh hE168 hs91 (by decide)
              have hs102 := Ext_sh hE168 hs102 (by decide)
              refine X_istore_n C dX4_statement_295 rfl (lo2 := [(2, _), (1, _), (0, _)]) (by decide) rfl ?_
              refine X_aload_n C dX4_statement_296 rfl 2 rfl (isRV_r _) ?_
              refine X_getF (ci := 4) (j := 1) (q := (RX4, TX4, 54)) C rfl (by decide) q1767 rfl dX4_statement_297 (b := 177) (LX_S hX (k := 175) rfl) (LX_F hX (k := 175) (j := 1) rfl) rfl ?_
              refine X_bipush (v := 32) C dX4_statement_300 rfl ?_
              refine X_iload_n C dX4_statement_302 rfl 1 rfl ?_
              refine X_iadd C dX4_statement_303 ?_
              refine X_iload_n C dX4_statement_304 rfl 0 rfl ?_
              have g173 := h.1
              have h := h.2
              refine X_iastS C (LX_S hX (k := 177) rfl) (LX_L hX (k := 177) rfl) g173 rfl dX4_statement_305 ?_
              refine X_nm (fun s174 e175 => ?_)
              have h := h s174 e175
              have hs2 : sh s174 (gBIG + 2 * 2) = 10 := by rw [e175]; exact hs2
              have hs58 : sh s174 (gBIG + 2 * 3) = 10 := by rw [e175]; exact hs58
              have hs69 : sh s174 (gBIG + 2 * 4) = 10 := by rw [e175]; exact hs69
              have hs80 : sh s174 (gBIG + 2 * 5) = 10 := by rw [e175]; exact hs80
              have hs91 : sh s174 (gBIG + 2 * 6) = 10 := by rw [e175]; exact hs91
              have hs102 : sh s174 (gBIG + 2 * 7) = 10 := by rw [e175]; exact hs102
              refine X_goto (tgt := 345) C dX4_statement_306 (by decide) ?_
              exact X_vret C rfl dX4_statement_345 (hn s174 h)
          · have h := h.2 c100
            refine X_aload_n C dX4_statement_236 rfl 0 rfl (isRV_r _) ?_
            refine X_callVS (ci := 4) (q := (RX4, TX4, 54)) (As := []) (rest := []) C rfl (LX_S hX (k := 175) rfl) q2225 q2227 qs103 q136 q2228 ⟨rfl, nm_X4_goesOn⟩ rfl dX4_statement_237 (m_X4_goesOn (Cx_l C) hX (d := d - 1) (by omega) st h) (by omega) (by decide) (Nat.le_of_ble_eq_true rfl) (fun s177 w178 hE179 hP180 => ?_) (fun s183 E181 q182 hE179 hP180 => ?_)
            rotate_left
            · exact False.elim hP180
            obtain ⟨rfl, h⟩ := hP180
            refine X_tln ?_
            have hs2 := Ext_sh hE179 hs2 (by decide)
            have hs58 := Ext_sh hE179 hs58 (by decide)
            have hs69 := Ext_sh hE179 hs69 (by decide)
            have hs80 := Ext_sh hE179 hs80 (by decide)
            have hs91 := Ext_sh hE179 hs91 (by decide)
            refine X_aload_n C dX4_statement_240 rfl 0 rfl (isRV_r _) ?_
            refine X_getF (ci := 4) (j := 1) (q := (RX4, TX4, 54)) C rfl (by decide) q1767 rfl dX4_statement_241 (b := 177) (LX_S hX (k := 175) rfl) (LX_F hX (k := 175) (j := 1) rfl) rfl ?_
            refine X_bipush (v := 31) C dX4_statement_244 rfl ?_
            refine X_aload_n C dX4_statement_246 rfl 0 rfl (isRV_r _) ?_
            refine X_iconst (v := 0) C dX4_statement_247 rfl ?_
            refine X_aload_n C dX4_statement_248 rfl 0 rfl (isRV_r _) ?_
            refine X_callVS (ci := 4) (q := (RX4, TX4, 54)) (As := []) (rest := [_, _, _, _]) C rfl (LX_S hX (k := 175) rfl) q1996 q1998 qs68 q136 q1999 ⟨rfl, nm_X4_points⟩ rfl dX4_statement_249 (m_X4_points (Cx_l C) hX (d := d - 1) (by omega) s177 h) (by omega) (by decide) (Nat.le_of_ble_eq_true rfl) (fun s190 w185 hE186 hP187 => ?_) (fun s191 E188 q189 hE186 hP187 => ?_)
            rotate_left
            · exact False.elim hP187
            obtain ⟨r184, rfl, rfl, h⟩ := hP187
            refine X_tls ?_
            refine X_iconst (v := 1) C dX4_statement_252 rfl ?_
            refine X_isub C dX4_statement_253 ?_
            refine X_callVS (ci := 4) (q := (RX4, TX4, 54)) (As := [_, _]) (rest := [_, _]) C rfl (LX_S hX (k := 175) rfl) q2253 q2255 qs109 q136 q2256 ⟨rfl, nm_X4_takes_2⟩ rfl dX4_statement_254 (m_X4_takes_2 (Cx_l C) hX (d := d - 1) (by omega) s177 0 (r184 - 1) h) (by omega) (by decide) (Nat.le_of_ble_eq_true rfl) (fun s193 w194 hE195 hP196 => ?_) (fun s199 E197 q198 hE195 hP196 => ?_)
            rotate_left
            · exact False.elim hP196
            obtain ⟨r192, rfl, h⟩ := hP196
            refine X_tls ?_
            have hs2 := Ext_sh hE195 hs2 (by decide)
            have hs58 := Ext_sh hE195 hs58 (by decide)
            have hs69 := Ext_sh hE195 hs69 (by decide)
            have hs80 := Ext_sh hE195 hs80 (by decide)
            have hs91 := Ext_sh hE195 hs91 (by decide)
            refine X_iastS C (LX_S hX (k := 177) rfl) (LX_L hX (k := 177) rfl) (vp_dec rfl) rfl dX4_statement_257 ?_
            refine X_nm (fun s200 e201 => ?_)
            have h := h s200 e201
            have hs2 : sh s200 (gBIG + 2 * 2) = 10 := by rw [e201]; exact hs2
            have hs58 : sh s200 (gBIG + 2 * 3) = 10 := by rw [e201]; exact hs58
            have hs69 : sh s200 (gBIG + 2 * 4) = 10 := by rw [e201]; exact hs69
            have hs80 : sh s200 (gBIG + 2 * 5) = 10 := by rw [e201]; exact hs80
            have hs91 : sh s200 (gBIG + 2 * 6) = 10 := by rw [e201]; exact hs91
            refine X_goto (tgt := 345) C dX4_statement_258 (by decide) ?_
            exact X_vret C rfl dX4_statement_345 (hn s200 h)
        · have h := h.2 c89
          refine X_aload_n C dX4_statement_142 rfl 0 rfl (isRV_r _) ?_
          refine X_callVS (ci := 4) (q := (RX4, TX4, 54)) (As := []) (rest := []) C rfl (LX_S hX (k := 175) rfl) q2225 q2227 qs103 q136 q2228 ⟨rfl, nm_X4_goesOn⟩ rfl dX4_statement_143 (m_X4_goesOn (Cx_l C) hX (d := d - 1) (by omega) st h) (by omega) (by decide) (Nat.le_of_ble_eq_true rfl) (fun s203 w204 hE205 hP206 => ?_) (fun s209 E207 q208 hE205 hP206 => ?_)
          rotate_left
          · exact False.elim hP206
          obtain ⟨rfl, h⟩ := hP206
          refine X_tln ?_
          have hs2 := Ext_sh hE205 hs2 (by decide)
          have hs58 := Ext_sh hE205 hs58 (by decide)
          have hs69 := Ext_sh hE205 hs69 (by decide)
          have hs80 := Ext_sh hE205 hs80 (by decide)
          refine X_aload_n C dX4_statement_146 rfl 0 rfl (isRV_r _) ?_
          refine X_iconst (v := 0) C dX4_statement_147 rfl ?_
          refine X_aload_n C dX4_statement_148 rfl 0 rfl (isRV_r _) ?_
          refine X_getF (ci := 4) (j := 1) (q := (RX4, TX4, 54)) C rfl (by decide) q1767 rfl dX4_statement_149 (b := 177) (LX_S hX (k := 175) rfl) (LX_F hX (k := 175) (j := 1) rfl) rfl ?_
          refine X_iconst (v := 0) C dX4_statement_152 rfl ?_
          refine X_ialdS C (LX_S hX (k := 177) rfl) (LX_L hX (k := 177) rfl) (vp_dec rfl) rfl dX4_statement_153 ?_
          refine X_iconst (v := 1) C dX4_statement_154 rfl ?_
          refine X_isub C dX4_statement_155 ?_
          refine X_callVS (ci := 4) (q := (RX4, TX4, 54)) (As := [_, _]) (rest := []) C rfl (LX_S hX (k := 175) rfl) q2253 q2255 qs109 q136 q2256 ⟨rfl, nm_X4_takes_2⟩ rfl dX4_statement_156 (m_X4_takes_2 (Cx_l C) hX (d := d - 1) (by omega) s203 0 ((sI s203 177 0) - 1) h) (by omega) (by decide) (Nat.le_of_ble_eq_true rfl) (fun s211 w212 hE213 hP214 => ?_) (fun s217 E215 q216 hE213 hP214 => ?_)
          rotate_left
          · exact False.elim hP214
          obtain ⟨r210, rfl, h⟩ := hP214
          refine X_tls ?_
          have hs2 := Ext_sh hE213 hs2 (by decide)
          have hs58 := Ext_sh hE213 hs58 (by decide)
          have hs69 := Ext_sh hE213 hs69 (by decide)
          have hs80 := Ext_sh hE213 hs80 (by decide)
          refine X_istore_n C dX4_statement_159 rfl (lo2 := [(1, _), (0, _)]) (by decide) rfl ?_
          refine X_iconst (v := 0) C dX4_statement_160 rfl ?_
          refine X_istore_n C dX4_statement_161 rfl (lo2 := [(2, _), (1, _), (0, _)]) (by decide) rfl ?_
          refine X_sub [2, 1, 0] (lo2 := [(0, _), (1, _), (2, _)]) rfl ?_
          refine t_X4_statement_l162 hX hd C hn ?_ gFU s211 r210 0 h
          · intro s240 h
            exact t_X4_statement_b223 hX hd C hn s240 h
      · have h := h.2 c78
        refine X_aload_n C dX4_statement_101 rfl 0 rfl (isRV_r _) ?_
        refine X_callVS (ci := 4) (q := (RX4, TX4, 54)) (As := []) (rest := []) C rfl (LX_S hX (k := 175) rfl) q2225 q2227 qs103 q136 q2228 ⟨rfl, nm_X4_goesOn⟩ rfl dX4_statement_102 (m_X4_goesOn (Cx_l C) hX (d := d - 1) (by omega) st h) (by omega) (by decide) (Nat.le_of_ble_eq_true rfl) (fun s242 w243 hE244 hP245 => ?_) (fun s248 E246 q247 hE244 hP245 => ?_)
        rotate_left
        · exact False.elim hP245
        obtain ⟨rfl, h⟩ := hP245
        refine X_tln ?_
        have hs2 := Ext_sh hE244 hs2 (by decide)
        have hs58 := Ext_sh hE244 hs58 (by decide)
        have hs69 := Ext_sh hE244 hs69 (by decide)
        refine X_aload_n C dX4_statement_105 rfl 0 rfl (isRV_r _) ?_
        refine X_getF (ci := 4) (j := 1) (q := (RX4, TX4, 54)) C rfl (by decide) q1767 rfl dX4_statement_106 (b := 177) (LX_S hX (k := 175) rfl) (LX_F hX (k := 175) (j := 1) rfl) rfl ?_
        refine X_iconst (v := 2) C dX4_statement_109 rfl ?_
        refine X_aload_n C dX4_statement_110 rfl 0 rfl (isRV_r _) ?_
        refine X_iconst (v := 1) C dX4_statement_111 rfl ?_
        refine X_iconst (v := 3) C dX4_statement_112 rfl ?_
        refine X_callVS (ci := 4) (q := (RX4, TX4, 54)) (As := [_, _]) (rest := [_, _]) C rfl (LX_S hX (k := 175) rfl) q2253 q2255 qs109 q136 q2256 ⟨rfl, nm_X4_takes_2⟩ rfl dX4_statement_113 (m_X4_takes_2 (Cx_l C) hX (d := d - 1) (by omega) s242 1 3 h) (by omega) (by decide) (Nat.le_of_ble_eq_true rfl) (fun s250 w251 hE252 hP253 => ?_) (fun s256 E254 q255 hE252 hP253 => ?_)
        rotate_left
        · exact False.elim hP253
        obtain ⟨r249, rfl, h⟩ := hP253
        refine X_tls ?_
        have hs2 := Ext_sh hE252 hs2 (by decide)
        have hs58 := Ext_sh hE252 hs58 (by decide)
        have hs69 := Ext_sh hE252 hs69 (by decide)
        refine X_iastS C (LX_S hX (k := 177) rfl) (LX_L hX (k := 177) rfl) (vp_dec rfl) rfl dX4_statement_116 ?_
        refine X_nm (fun s257 e258 => ?_)
        have h := h s257 e258
        have hs2 : sh s257 (gBIG + 2 * 2) = 10 := by rw [e258]; exact hs2
        have hs58 : sh s257 (gBIG + 2 * 3) = 10 := by rw [e258]; exact hs58
        have hs69 : sh s257 (gBIG + 2 * 4) = 10 := by rw [e258]; exact hs69
        refine X_aload_n C dX4_statement_117 rfl 0 rfl (isRV_r _) ?_
        refine X_getF (ci := 4) (j := 1) (q := (RX4, TX4, 54)) C rfl (by decide) q1767 rfl dX4_statement_118 (b := 177) (LX_S hX (k := 175) rfl) (LX_F hX (k := 175) (j := 1) rfl) rfl ?_
        refine X_iconst (v := 3) C dX4_statement_121 rfl ?_
        refine X_aload_n C dX4_statement_122 rfl 0 rfl (isRV_r _) ?_
        refine X_iconst (v := 1) C dX4_statement_123 rfl ?_
        refine X_iconst (v := 3) C dX4_statement_124 rfl ?_
        refine X_callVS (ci := 4) (q := (RX4, TX4, 54)) (As := [_, _]) (rest := [_, _]) C rfl (LX_S hX (k := 175) rfl) q2253 q2255 qs109 q136 q2256 ⟨rfl, nm_X4_takes_2⟩ rfl dX4_statement_125 (m_X4_takes_2 (Cx_l C) hX (d := d - 1) (by omega) s257 1 3 h) (by omega) (by decide) (Nat.le_of_ble_eq_true rfl) (fun s260 w261 hE262 hP263 => ?_) (fun s266 E264 q265 hE262 hP263 => ?_)
        rotate_left
        · exact False.elim hP263
        obtain ⟨r259, rfl, h⟩ := hP263
        refine X_tls ?_
        have hs2 := Ext_sh hE262 hs2 (by decide)
        have hs58 := Ext_sh hE262 hs58 (by decide)
        have hs69 := Ext_sh hE262 hs69 (by decide)
        refine X_iastS C (LX_S hX (k := 177) rfl) (LX_L hX (k := 177) rfl) (vp_dec rfl) rfl dX4_statement_128 ?_
        refine X_nm (fun s267 e268 => ?_)
        have h := h s267 e268
        have hs2 : sh s267 (gBIG + 2 * 2) = 10 := by rw [e268]; exact hs2
        have hs58 : sh s267 (gBIG + 2 * 3) = 10 := by rw [e268]; exact hs58
        have hs69 : sh s267 (gBIG + 2 * 4) = 10 := by rw [e268]; exact hs69
        refine X_goto (tgt := 345) C dX4_statement_129 (by decide) ?_
        exact X_vret C rfl dX4_statement_345 (hn s267 h)
    · have h := h.2 c67
      exact t_X4_statement_b20 hX hd C hn st h

theorem nm_X4_read : yX4_read.cls ≠ "java/lang/invoke/MethodHandle" ∧ yX4_read.cls ≠ "java/lang/invoke/VarHandle" ∧ (parseMethodDescriptor yX4_read.desc).map (fun d => d.parameters.length) = some 0 := by decide +kernel
def w_X4_read_b86 (Φ : St → Int32 → Prop) (K47 : St → Int32 → Int32 → Prop) (st : St) (x1 : Int32) (z0 : Int32) : Prop := ((z0 = 0) → K47 st x1 z0) ∧ ((¬ z0 = 0) → w_X4_goesOn st (fun (s46 : St) => K47 s46 x1 z0))
theorem t_X4_read_b86 {θ : Th} {κ : Kx} {Ph : Ph} (hX : LX θ) {d : Nat} (hd : 24 ≤ d) (C : Cx θ κ yX4_read cX4_read 3 (some Jvm.ClassFile.FieldType.int) [] d) {Φ : St → Int32 → Prop} (hn : ∀ st r, Φ st r → Ph.1 st (some (.int r))) {K47 : St → Int32 → Int32 → Prop} (hK47 : ∀ (st : St) (x1 : Int32) (x2 : Int32), K47 st x1 x2 → X θ κ Ph st 47 [(0, .ref (ad θ 175)), (1, .int x1), (2, .int x2)] []) (st : St) (x1 : Int32) (z0 : Int32) (h : w_X4_read_b86 Φ K47 st x1 z0) : X θ κ Ph st 86 [(0, .ref (ad θ 175)), (1, .int x1)] [.int z0] := by
  unfold w_X4_read_b86 at h
  refine X_istore_n C dX4_read_86 rfl (lo2 := [(2, _), (0, _), (1, _)]) (by decide) rfl ?_
  refine X_iload_n C dX4_read_87 rfl 0 rfl ?_
  refine X_if_eq (tgt := 47) C dX4_read_88 (by decide) (fun c44 => ?_) (fun c44 => ?_)
  · have h := h.1 c44
    refine X_sub [1, 2, 0] (lo2 := [(0, _), (1, _), (2, _)]) rfl ?_
    exact hK47 st x1 z0 h
  · have h := h.2 c44
    refine X_aload_n C dX4_read_91 rfl 1 rfl (isRV_r _) ?_
    refine X_callVS (ci := 4) (q := (RX4, TX4, 54)) (As := []) (rest := []) C rfl (LX_S hX (k := 175) rfl) q2225 q2227 qs103 q136 q2228 ⟨rfl, nm_X4_goesOn⟩ rfl dX4_read_92 (m_X4_goesOn (Cx_l C) hX (d := d - 1) (by omega) st h) (by omega) (by decide) (Nat.le_of_ble_eq_true rfl) (fun s46 w47 hE48 hP49 => ?_) (fun s52 E50 q51 hE48 hP49 => ?_)
    rotate_left
    · exact False.elim hP49
    obtain ⟨rfl, h⟩ := hP49
    refine X_tln ?_
    refine X_goto (tgt := 47) C dX4_read_95 (by decide) ?_
    refine X_sub [1, 2, 0] (lo2 := [(0, _), (1, _), (2, _)]) rfl ?_
    exact hK47 s46 x1 z0 h
def w_X4_read_b85 (Φ : St → Int32 → Prop) (K47 : St → Int32 → Int32 → Prop) (st : St) (x1 : Int32) : Prop := w_X4_read_b86 Φ K47 st x1 0
theorem t_X4_read_b85 {θ : Th} {κ : Kx} {Ph : Ph} (hX : LX θ) {d : Nat} (hd : 24 ≤ d) (C : Cx θ κ yX4_read cX4_read 3 (some Jvm.ClassFile.FieldType.int) [] d) {Φ : St → Int32 → Prop} (hn : ∀ st r, Φ st r → Ph.1 st (some (.int r))) {K47 : St → Int32 → Int32 → Prop} (hK47 : ∀ (st : St) (x1 : Int32) (x2 : Int32), K47 st x1 x2 → X θ κ Ph st 47 [(0, .ref (ad θ 175)), (1, .int x1), (2, .int x2)] []) (st : St) (x1 : Int32) (h : w_X4_read_b85 Φ K47 st x1) : X θ κ Ph st 85 [(0, .ref (ad θ 175)), (1, .int x1)] [] := by
  unfold w_X4_read_b85 at h
  refine X_iconst (v := 0) C dX4_read_85 rfl ?_
  exact t_X4_read_b86 hX hd C hn hK47 st x1 0 h
def w_X4_read_l47 (Φ : St → Int32 → Prop) (E98 : St → Int32 → Prop) : Nat → St → Int32 → Int32 → Prop
  | 0, _, _, _ => False
  | n + 1, st, x1, x2 => ((x2 = 0) → E98 st x1) ∧ ((¬ x2 = 0) → ((0 ≤ (sI st 175 50)) → E98 st x1) ∧ ((¬ 0 ≤ (sI st 175 50)) → w_X4_statement st (fun (s36 : St) => ((0 ≤ (sI s36 175 50)) → w_X4_read_b85 Φ (w_X4_read_l47 Φ E98 n) s36 (x1 + 1)) ∧ ((¬ 0 ≤ (sI s36 175 50)) → w_X4_isSign s36 59 (fun (r53 : Int32) => ((r53 = 0) → w_X4_read_b85 Φ (w_X4_read_l47 Φ E98 n) s36 (x1 + 1)) ∧ ((¬ r53 = 0) → w_X4_read_b86 Φ (w_X4_read_l47 Φ E98 n) s36 (x1 + 1) 1))))))
theorem t_X4_read_l47 {θ : Th} {κ : Kx} {Ph : Ph} (hX : LX θ) {d : Nat} (hd : 24 ≤ d) (C : Cx θ κ yX4_read cX4_read 3 (some Jvm.ClassFile.FieldType.int) [] d) {Φ : St → Int32 → Prop} (hn : ∀ st r, Φ st r → Ph.1 st (some (.int r))) {E98 : St → Int32 → Prop} (hE98 : ∀ (st : St) (x1 : Int32), E98 st x1 → X θ κ Ph st 98 [(0, .ref (ad θ 175)), (1, .int x1)] []) : ∀ (n : Nat) (st : St) (x1 : Int32) (x2 : Int32), w_X4_read_l47 Φ E98 n st x1 x2 → X θ κ Ph st 47 [(0, .ref (ad θ 175)), (1, .int x1), (2, .int x2)] [] := by
  intro n
  induction n with
  | zero => intro st x1 x2 h; exact h.elim
  | succ n hK47 =>
    intro st x1 x2 h
    rw [w_X4_read_l47] at h
    refine X_iload_n C dX4_read_47 rfl 2 rfl ?_
    refine X_if_eq (tgt := 98) C dX4_read_48 (by decide) (fun c33 => ?_) (fun c33 => ?_)
    · have h := h.1 c33
      refine X_sub [0, 1] (lo2 := [(0, _), (1, _)]) rfl ?_
      exact hE98 st x1 h
    · have h := h.2 c33
      refine X_aload_n C dX4_read_51 rfl 0 rfl (isRV_r _) ?_
      refine X_getS (ci := 4) (j := 50) (q := (RX4, TX4, 54)) C rfl (by decide) q1816 rfl dX4_read_52 (LX_S hX (k := 175) rfl) (v := .int (sI st 175 50)) rfl ?_
      refine X_if_ge (tgt := 98) C dX4_read_55 (by decide) (fun c34 => ?_) (fun c34 => ?_)
      · have h := h.1 c34
        refine X_sub [0, 1] (lo2 := [(0, _), (1, _)]) rfl ?_
        exact hE98 st x1 h
      · have h := h.2 c34
        refine X_aload_n C dX4_read_58 rfl 0 rfl (isRV_r _) ?_
        refine X_callVS (ci := 4) (q := (RX4, TX4, 54)) (As := []) (rest := []) C rfl (LX_S hX (k := 175) rfl) q2241 q2243 qs107 q136 q2244 ⟨rfl, nm_X4_statement⟩ rfl dX4_read_59 (m_X4_statement (Cx_l C) hX (d := d - 1) (by omega) st h) (by omega) (by decide) (Nat.le_of_ble_eq_true rfl) (fun s36 w37 hE38 hP39 => ?_) (fun s42 E40 q41 hE38 hP39 => ?_)
        rotate_left
        · exact False.elim hP39
        obtain ⟨rfl, h⟩ := hP39
        refine X_tln ?_
        refine X_iinc (v := (x1 + 1)) C (j := 1) dX4_read_62 rfl rfl (lo2 := [(1, _), (0, _), (2, _)]) (by decide) rfl ?_
        refine X_aload_n C dX4_read_65 rfl 1 rfl (isRV_r _) ?_
        refine X_getS (ci := 4) (j := 50) (q := (RX4, TX4, 54)) C rfl (by decide) q1816 rfl dX4_read_66 (LX_S hX (k := 175) rfl) (v := .int (sI s36 175 50)) rfl ?_
        refine X_if_ge (tgt := 85) C dX4_read_69 (by decide) (fun c43 => ?_) (fun c43 => ?_)
        · have h := h.1 c43
          refine X_sub [1, 0] (lo2 := [(0, _), (1, _)]) rfl ?_
          exact t_X4_read_b85 hX hd C hn hK47 s36 (x1 + 1) h
        · have h := h.2 c43
          refine X_aload_n C dX4_read_72 rfl 1 rfl (isRV_r _) ?_
          refine X_bipush (v := 59) C dX4_read_73 rfl ?_
          refine X_callVS (ci := 4) (q := (RX4, TX4, 54)) (As := [_]) (rest := []) C rfl (LX_S hX (k := 175) rfl) q2263 q2265 qs111 q136 q2266 ⟨rfl, nm_X4_isSign⟩ rfl dX4_read_75 (m_X4_isSign (Cx_l C) hX (d := d - 1) (by omega) s36 59 h) (by omega) (by decide) (Nat.le_of_ble_eq_true rfl) (fun s59 w54 hE55 hP56 => ?_) (fun s60 E57 q58 hE55 hP56 => ?_)
          rotate_left
          · exact False.elim hP56
          obtain ⟨r53, rfl, rfl, h⟩ := hP56
          refine X_tls ?_
          refine X_if_eq (tgt := 85) C dX4_read_78 (by decide) (fun c61 => ?_) (fun c61 => ?_)
          · have h := h.1 c61
            refine X_sub [1, 0] (lo2 := [(0, _), (1, _)]) rfl ?_
            exact t_X4_read_b85 hX hd C hn hK47 s36 (x1 + 1) h
          · have h := h.2 c61
            refine X_iconst (v := 1) C dX4_read_81 rfl ?_
            refine X_goto (tgt := 86) C dX4_read_82 (by decide) ?_
            refine X_sub [1, 0] (lo2 := [(0, _), (1, _)]) rfl ?_
            exact t_X4_read_b86 hX hd C hn hK47 s36 (x1 + 1) 1 h
def w_X4_read_b161 (Φ : St → Int32 → Prop) (st : St) (x1 : Int32) (z0 : Int32) : Prop := (z0 = 0 ∨ z0 = 1) ∧ ∀ s67, s67 = putI st 175 5 z0 → Φ s67 x1
theorem t_X4_read_b161 {θ : Th} {κ : Kx} {Ph : Ph} (hX : LX θ) {d : Nat} (hd : 24 ≤ d) (C : Cx θ κ yX4_read cX4_read 3 (some Jvm.ClassFile.FieldType.int) [] d) {Φ : St → Int32 → Prop} (hn : ∀ st r, Φ st r → Ph.1 st (some (.int r))) (st : St) (x1 : Int32) (z0 : Int32) (h : w_X4_read_b161 Φ st x1 z0) : X θ κ Ph st 161 [(1, .int x1)] [.int z0, .ref (ad θ 175)] := by
  unfold w_X4_read_b161 at h
  have g66 := h.1
  have h := h.2
  refine X_putSI (ci := 4) (j := 5) (q := (RX4, TX4, 54)) C rfl (by decide) q1771 rfl rfl dX4_read_161 (LX_S hX (k := 175) rfl) rfl (nb_01 g66).1 (nb_01 g66).2 ?_
  refine X_nm (fun s67 e68 => ?_)
  have h := h s67 e68
  refine X_iload_n C dX4_read_164 rfl 0 rfl ?_
  exact X_iret C rfl dX4_read_165 (hn s67 _ h)
def w_X4_read_b160 (Φ : St → Int32 → Prop) (st : St) (x1 : Int32) : Prop := w_X4_read_b161 Φ st x1 0
theorem t_X4_read_b160 {θ : Th} {κ : Kx} {Ph : Ph} (hX : LX θ) {d : Nat} (hd : 24 ≤ d) (C : Cx θ κ yX4_read cX4_read 3 (some Jvm.ClassFile.FieldType.int) [] d) {Φ : St → Int32 → Prop} (hn : ∀ st r, Φ st r → Ph.1 st (some (.int r))) (st : St) (x1 : Int32) (h : w_X4_read_b160 Φ st x1) : X θ κ Ph st 160 [(1, .int x1)] [.ref (ad θ 175)] := by
  unfold w_X4_read_b160 at h
  refine X_iconst (v := 0) C dX4_read_160 rfl ?_
  exact t_X4_read_b161 hX hd C hn st x1 0 h
def w_X4_read_b116 (Φ : St → Int32 → Prop) (st : St) (x1 : Int32) : Prop := (((sI st 175 50) < 0) → (((sI st 175 5) = 0) → w_X4_read_b160 Φ st x1) ∧ ((¬ (sI st 175 5) = 0) → (((sI st 175 53) ≠ 0) → w_X4_read_b160 Φ st x1) ∧ (((sI st 175 53) = 0) → w_X4_read_b161 Φ st x1 1))) ∧ ((¬ (sI st 175 50) < 0) → w_X4_move st 179 177 (fun (s77 : St) => Φ s77 ((-1) - (sI s77 175 50))))
theorem t_X4_read_b116 {θ : Th} {κ : Kx} {Ph : Ph} (hX : LX θ) {d : Nat} (hd : 24 ≤ d) (C : Cx θ κ yX4_read cX4_read 3 (some Jvm.ClassFile.FieldType.int) [] d) {Φ : St → Int32 → Prop} (hn : ∀ st r, Φ st r → Ph.1 st (some (.int r))) (st : St) (x1 : Int32) (h : w_X4_read_b116 Φ st x1) : X θ κ Ph st 116 [(0, .ref (ad θ 175)), (1, .int x1)] [] := by
  unfold w_X4_read_b116 at h
  refine X_aload_n C dX4_read_116 rfl 0 rfl (isRV_r _) ?_
  refine X_getS (ci := 4) (j := 50) (q := (RX4, TX4, 54)) C rfl (by decide) q1816 rfl dX4_read_117 (LX_S hX (k := 175) rfl) (v := .int (sI st 175 50)) rfl ?_
  refine X_if_lt (tgt := 141) C dX4_read_120 (by decide) (fun c64 => ?_) (fun c64 => ?_)
  · have h := h.1 c64
    refine X_aload_n C dX4_read_141 rfl 0 rfl (isRV_r _) ?_
    refine X_aload_n C dX4_read_142 rfl 0 rfl (isRV_r _) ?_
    refine X_getS (ci := 4) (j := 5) (q := (RX4, TX4, 54)) C rfl (by decide) q1771 rfl dX4_read_143 (LX_S hX (k := 175) rfl) (v := .int (sI st 175 5)) rfl ?_
    refine X_if_eq (tgt := 160) C dX4_read_146 (by decide) (fun c65 => ?_) (fun c65 => ?_)
    · have h := h.1 c65
      refine X_sub [1] (lo2 := [(1, _)]) rfl ?_
      exact t_X4_read_b160 hX hd C hn st x1 h
    · have h := h.2 c65
      refine X_aload_n C dX4_read_149 rfl 0 rfl (isRV_r _) ?_
      refine X_getS (ci := 4) (j := 53) (q := (RX4, TX4, 54)) C rfl (by decide) q1819 rfl dX4_read_150 (LX_S hX (k := 175) rfl) (v := .int (sI st 175 53)) rfl ?_
      refine X_if_ne (tgt := 160) C dX4_read_153 (by decide) (fun c69 => ?_) (fun c69 => ?_)
      · have h := h.1 c69
        refine X_sub [1] (lo2 := [(1, _)]) rfl ?_
        exact t_X4_read_b160 hX hd C hn st x1 h
      · have h := h.2 c69
        refine X_iconst (v := 1) C dX4_read_156 rfl ?_
        refine X_goto (tgt := 161) C dX4_read_157 (by decide) ?_
        refine X_sub [1] (lo2 := [(1, _)]) rfl ?_
        exact t_X4_read_b161 hX hd C hn st x1 1 h
  · have h := h.2 c64
    refine X_aload_n C dX4_read_123 rfl 0 rfl (isRV_r _) ?_
    refine X_getF (ci := 4) (j := 3) (q := (RX4, TX4, 54)) C rfl (by decide) q1769 rfl dX4_read_124 (b := 179) (LX_S hX (k := 175) rfl) (LX_F hX (k := 175) (j := 3) rfl) rfl ?_
    refine X_aload_n C dX4_read_127 rfl 0 rfl (isRV_r _) ?_
    refine X_getF (ci := 4) (j := 1) (q := (RX4, TX4, 54)) C rfl (by decide) q1767 rfl dX4_read_128 (b := 177) (LX_S hX (k := 175) rfl) (LX_F hX (k := 175) (j := 1) rfl) rfl ?_
    refine X_shl (LX_S hX (k := 179) rfl) (by decide) (LX_L hX (k := 179) rfl) (fun hs70 hl72 hb71 => ?_)
    refine X_shl (LX_S hX (k := 177) rfl) (by decide) (LX_L hX (k := 177) rfl) (fun hs73 hl75 hb74 => ?_)
    refine X_callS (As := [_, _]) (rest := []) C q2222 q2223 q136 q2224 nm_X4_move rfl dX4_read_131 (m_X4_move (Cx_l C) hX (d := d - 1) (by omega) st 179 177 hs70 hb71 hl72 hs73 hb74 hl75 h) (by omega) (by decide) (Nat.le_of_ble_eq_true rfl) (fun s77 w78 hE79 hP80 => ?_) (fun s83 E81 q82 hE79 hP80 => ?_)
    rotate_left
    · exact False.elim hP80
    obtain ⟨rfl, h⟩ := hP80
    refine X_tln ?_
    refine X_iconst (v := (-1)) C dX4_read_134 rfl ?_
    refine X_aload_n C dX4_read_135 rfl 0 rfl (isRV_r _) ?_
    refine X_getS (ci := 4) (j := 50) (q := (RX4, TX4, 54)) C rfl (by decide) q1816 rfl dX4_read_136 (LX_S hX (k := 175) rfl) (v := .int (sI s77 175 50)) rfl ?_
    refine X_isub C dX4_read_139 ?_
    exact X_iret C rfl dX4_read_140 (hn s77 _ h)
def w_X4_read_b98 (Φ : St → Int32 → Prop) (st : St) (x1 : Int32) : Prop := ((0 ≤ (sI st 175 50)) → w_X4_read_b116 Φ st x1) ∧ ((¬ 0 ≤ (sI st 175 50)) → (((sI st 175 48) = 0) → w_X4_read_b116 Φ st x1) ∧ ((¬ (sI st 175 48) = 0) → w_X4_fails st (fun (s86 : St) => w_X4_read_b116 Φ s86 x1)))
theorem t_X4_read_b98 {θ : Th} {κ : Kx} {Ph : Ph} (hX : LX θ) {d : Nat} (hd : 24 ≤ d) (C : Cx θ κ yX4_read cX4_read 3 (some Jvm.ClassFile.FieldType.int) [] d) {Φ : St → Int32 → Prop} (hn : ∀ st r, Φ st r → Ph.1 st (some (.int r))) (st : St) (x1 : Int32) (h : w_X4_read_b98 Φ st x1) : X θ κ Ph st 98 [(0, .ref (ad θ 175)), (1, .int x1)] [] := by
  unfold w_X4_read_b98 at h
  refine X_aload_n C dX4_read_98 rfl 0 rfl (isRV_r _) ?_
  refine X_getS (ci := 4) (j := 50) (q := (RX4, TX4, 54)) C rfl (by decide) q1816 rfl dX4_read_99 (LX_S hX (k := 175) rfl) (v := .int (sI st 175 50)) rfl ?_
  refine X_if_ge (tgt := 116) C dX4_read_102 (by decide) (fun c63 => ?_) (fun c63 => ?_)
  · have h := h.1 c63
    exact t_X4_read_b116 hX hd C hn st x1 h
  · have h := h.2 c63
    refine X_aload_n C dX4_read_105 rfl 0 rfl (isRV_r _) ?_
    refine X_getS (ci := 4) (j := 48) (q := (RX4, TX4, 54)) C rfl (by decide) q1814 rfl dX4_read_106 (LX_S hX (k := 175) rfl) (v := .int (sI st 175 48)) rfl ?_
    refine X_if_eq (tgt := 116) C dX4_read_109 (by decide) (fun c84 => ?_) (fun c84 => ?_)
    · have h := h.1 c84
      exact t_X4_read_b116 hX hd C hn st x1 h
    · have h := h.2 c84
      refine X_aload_n C dX4_read_112 rfl 0 rfl (isRV_r _) ?_
      refine X_callVS (ci := 4) (q := (RX4, TX4, 54)) (As := []) (rest := []) C rfl (LX_S hX (k := 175) rfl) q2237 q2239 qs106 q136 q2240 ⟨rfl, nm_X4_fails⟩ rfl dX4_read_113 (m_X4_fails (Cx_l C) hX (d := d - 1) (by omega) st h) (by omega) (by decide) (Nat.le_of_ble_eq_true rfl) (fun s86 w87 hE88 hP89 => ?_) (fun s92 E90 q91 hE88 hP89 => ?_)
      rotate_left
      · exact False.elim hP89
      obtain ⟨rfl, h⟩ := hP89
      refine X_tln ?_
      exact t_X4_read_b116 hX hd C hn s86 x1 h
def w_X4_read (st : St) (Φ : St → Int32 → Prop) : Prop := ∀ s1, s1 = putI st 175 46 (sI st 175 10) → ∀ s3, s3 = putI s1 175 10 0 → ∀ s5, s5 = putI s3 175 45 0 → ∀ s7, s7 = putI s5 175 50 (-1) → ∀ s9, s9 = putI s7 175 53 0 → w_X4_move s9 177 179 (fun (s18 : St) => w_X4_goesOn s18 (fun (s26 : St) => w_X4_read_l47 Φ (fun (s62 : St) (x1 : Int32) => w_X4_read_b98 Φ s62 x1) gFU s26 0 1))
theorem e_X4_read : plainFor yX4_read = true := plainFor_of_name (by decide +kernel)
theorem m_X4_read {θ : Th} {l : Launch} (hl0 : l.stackTraces = false) (hX : LX θ) {d : Nat} (hd : 24 ≤ d) (st : St) {Φ : St → Int32 → Prop} (h : w_X4_read st Φ) : Ct θ l yX4_read (ws_ yX4_read cX4_read 3 (some Jvm.ClassFile.FieldType.int)) d [.ref (ad θ 175)] st (pI Φ, noX) := by
  refine Ct_entry hl0 e_X4_read (Nat.le_of_ble_eq_true rfl) (fun κ hκ _ C => ?_)
  have hn : ∀ st r, Φ st r → ((pI Φ, noX) : Ph).1 st (some (.int r)) := fun st r q => ⟨r, rfl, q⟩
  change X _ _ _ _ _ [(0, .ref (ad θ 175))] _
  unfold w_X4_read at h
  refine X_aload_n C dX4_read_0 rfl 0 rfl (isRV_r _) ?_
  refine X_aload_n C dX4_read_1 rfl 0 rfl (isRV_r _) ?_
  refine X_getS (ci := 4) (j := 10) (q := (RX4, TX4, 54)) C rfl (by decide) q1776 rfl dX4_read_2 (LX_S hX (k := 175) rfl) (v := .int (sI st 175 10)) rfl ?_
  refine X_putSI (ci := 4) (j := 46) (q := (RX4, TX4, 54)) C rfl (by decide) q1812 rfl rfl dX4_read_5 (LX_S hX (k := 175) rfl) rfl rfl rfl ?_
  refine X_nm (fun s1 e2 => ?_)
  have h := h s1 e2
  refine X_aload_n C dX4_read_8 rfl 0 rfl (isRV_r _) ?_
  refine X_iconst (v := 0) C dX4_read_9 rfl ?_
  refine X_putSI (ci := 4) (j := 10) (q := (RX4, TX4, 54)) C rfl (by decide) q1776 rfl rfl dX4_read_10 (LX_S hX (k := 175) rfl) rfl rfl rfl ?_
  refine X_nm (fun s3 e4 => ?_)
  have h := h s3 e4
  refine X_aload_n C dX4_read_13 rfl 0 rfl (isRV_r _) ?_
  refine X_iconst (v := 0) C dX4_read_14 rfl ?_
  refine X_putSI (ci := 4) (j := 45) (q := (RX4, TX4, 54)) C rfl (by decide) q1811 rfl rfl dX4_read_15 (LX_S hX (k := 175) rfl) rfl rfl rfl ?_
  refine X_nm (fun s5 e6 => ?_)
  have h := h s5 e6
  refine X_aload_n C dX4_read_18 rfl 0 rfl (isRV_r _) ?_
  refine X_iconst (v := (-1)) C dX4_read_19 rfl ?_
  refine X_putSI (ci := 4) (j := 50) (q := (RX4, TX4, 54)) C rfl (by decide) q1816 rfl rfl dX4_read_20 (LX_S hX (k := 175) rfl) rfl rfl rfl ?_
  refine X_nm (fun s7 e8 => ?_)
  have h := h s7 e8
  refine X_aload_n C dX4_read_23 rfl 0 rfl (isRV_r _) ?_
  refine X_iconst (v := 0) C dX4_read_24 rfl ?_
  refine X_putSI (ci := 4) (j := 53) (q := (RX4, TX4, 54)) C rfl (by decide) q1819 rfl rfl dX4_read_25 (LX_S hX (k := 175) rfl) rfl rfl rfl ?_
  refine X_nm (fun s9 e10 => ?_)
  have h := h s9 e10
  refine X_aload_n C dX4_read_28 rfl 0 rfl (isRV_r _) ?_
  refine X_getF (ci := 4) (j := 1) (q := (RX4, TX4, 54)) C rfl (by decide) q1767 rfl dX4_read_29 (b := 177) (LX_S hX (k := 175) rfl) (LX_F hX (k := 175) (j := 1) rfl) rfl ?_
  refine X_aload_n C dX4_read_32 rfl 0 rfl (isRV_r _) ?_
  refine X_getF (ci := 4) (j := 3) (q := (RX4, TX4, 54)) C rfl (by decide) q1769 rfl dX4_read_33 (b := 179) (LX_S hX (k := 175) rfl) (LX_F hX (k := 175) (j := 3) rfl) rfl ?_
  refine X_shl (LX_S hX (k := 177) rfl) (by decide) (LX_L hX (k := 177) rfl) (fun hs11 hl13 hb12 => ?_)
  refine X_shl (LX_S hX (k := 179) rfl) (by decide) (LX_L hX (k := 179) rfl) (fun hs14 hl16 hb15 => ?_)
  refine X_callS (As := [_, _]) (rest := []) C q2222 q2223 q136 q2224 nm_X4_move rfl dX4_read_36 (m_X4_move (Cx_l C) hX (d := d - 1) (by omega) s9 177 179 hs11 hb12 hl13 hs14 hb15 hl16 h) (by omega) (by decide) (Nat.le_of_ble_eq_true rfl) (fun s18 w19 hE20 hP21 => ?_) (fun s24 E22 q23 hE20 hP21 => ?_)
  rotate_left
  · exact False.elim hP21
  obtain ⟨rfl, h⟩ := hP21
  refine X_tln ?_
  refine X_iconst (v := 0) C dX4_read_39 rfl ?_
  refine X_istore_n C dX4_read_40 rfl (lo2 := [(1, _), (0, _)]) (by decide) rfl ?_
  refine X_aload_n C dX4_read_41 rfl 1 rfl (isRV_r _) ?_
  refine X_callVS (ci := 4) (q := (RX4, TX4, 54)) (As := []) (rest := []) C rfl (LX_S hX (k := 175) rfl) q2225 q2227 qs103 q136 q2228 ⟨rfl, nm_X4_goesOn⟩ rfl dX4_read_42 (m_X4_goesOn (Cx_l C) hX (d := d - 1) (by omega) s18 h) (by omega) (by decide) (Nat.le_of_ble_eq_true rfl) (fun s26 w27 hE28 hP29 => ?_) (fun s32 E30 q31 hE28 hP29 => ?_)
  rotate_left
  · exact False.elim hP29
  obtain ⟨rfl, h⟩ := hP29
  refine X_tln ?_
  refine X_iconst (v := 1) C dX4_read_45 rfl ?_
  refine X_istore_n C dX4_read_46 rfl (lo2 := [(2, _), (1, _), (0, _)]) (by decide) rfl ?_
  refine X_sub [2, 1, 0] (lo2 := [(0, _), (1, _), (2, _)]) rfl ?_
  refine t_X4_read_l47 hX hd C hn ?_ gFU s26 0 1 h
  · intro s62 x1 h
    exact t_X4_read_b98 hX hd C hn s62 x1 h

theorem nm_X4_worthOf : yX4_worthOf.cls ≠ "java/lang/invoke/MethodHandle" ∧ yX4_worthOf.cls ≠ "java/lang/invoke/VarHandle" ∧ (parseMethodDescriptor yX4_worthOf.desc).map (fun d => d.parameters.length) = some 2 := by decide +kernel
def w_X4_worthOf_b191 (rec : St → Int32 → Int32 → (St → Prop) → Prop) (Φ : St → Prop) (K93 : St → Int32 → Int32 → Int64 → Int64 → Int32 → Int32 → Prop) (st : St) (x1 : Int32) (x2 : Int32) (x5 : Int64) (x7 : Int64) (x9 : Int32) (x10 : Int32) : Prop := K93 st x1 x2 x5 x7 x9 (x10 + 1)
theorem t_X4_worthOf_b191 {θ : Th} {κ : Kx} {Ph : Ph} (hX : LX θ) {rec : St → Int32 → Int32 → (St → Prop) → Prop} {dR : Nat} (hrec : ∀ {d : Nat}, dR ≤ d → ∀ (st : St) (p1 : Int32) (p2 : Int32), ∀ {Φ : St → Prop}, rec st p1 p2 Φ → Ct θ κ.2.1 yX4_worthOf (ws_ yX4_worthOf cX4_worthOf 15 (none : Option Jvm.ClassFile.FieldType)) d [.ref (ad θ 175), .int p1, .int p2] st (pV Φ, noX)) {d : Nat} (hd : 7 ≤ d) (hdR : dR + 1 ≤ d) (C : Cx θ κ yX4_worthOf cX4_worthOf 15 (none : Option Jvm.ClassFile.FieldType) [] d) {Φ : St → Prop} (hn : ∀ st, Φ st → Ph.1 st none) {K93 : St → Int32 → Int32 → Int64 → Int64 → Int32 → Int32 → Prop} (hK93 : ∀ (st : St) (x1 : Int32) (x2 : Int32) (x5 : Int64) (x7 : Int64) (x9 : Int32) (x10 : Int32), K93 st x1 x2 x5 x7 x9 x10 → X θ κ Ph st 93 [(0, .ref (ad θ 175)), (1, .int x1), (2, .int x2), (5, .long x5), (7, .long x7), (9, .int x9), (10, .int x10)] []) (st : St) (x1 : Int32) (x2 : Int32) (x5 : Int64) (x7 : Int64) (x9 : Int32) (x10 : Int32) (h : w_X4_worthOf_b191 rec Φ K93 st x1 x2 x5 x7 x9 x10) : X θ κ Ph st 191 [(0, .ref (ad θ 175)), (1, .int x1), (2, .int x2), (5, .long x5), (7, .long x7), (9, .int x9), (10, .int x10)] [] := by
  unfold w_X4_worthOf_b191 at h
  refine X_iinc (v := (x10 + 1)) C (j := 6) dX4_worthOf_191 rfl rfl (lo2 := [(10, _), (0, _), (1, _), (2, _), (5, _), (7, _), (9, _)]) (by decide) rfl ?_
  refine X_goto (tgt := 93) C dX4_worthOf_194 (by decide) ?_
  refine X_sub [1, 2, 3, 4, 5, 6, 0] (lo2 := [(0, _), (1, _), (2, _), (5, _), (7, _), (9, _), (10, _)]) rfl ?_
  exact hK93 st x1 x2 x5 x7 x9 (x10 + 1) h
def w_X4_worthOf_l93 (rec : St → Int32 → Int32 → (St → Prop) → Prop) (Φ : St → Prop) (E197 : St → Int64 → Int64 → Prop) : Nat → St → Int32 → Int32 → Int64 → Int64 → Int32 → Int32 → Prop
  | 0, _, _, _, _, _, _, _ => False
  | n + 1, st, x1, x2, x5, x7, x9, x10 => (((sI st 177 35) ≤ x10) → E197 st x5 x7) ∧ ((¬ (sI st 177 35) ≤ x10) → w_X4_isUnder st x1 x10 (fun (r24 : Int32) => ((r24 ≠ 0) → rec st x10 x2 (fun (s34 : St) => ∀ v41 : Int64, v41 = (sL s34 175 18) → ∀ v43 : Int64, v43 = (sL s34 175 19) → w_X4_weighsUnder s34 x1 x9 (fun (s46 : St) => w_X4_times s46 (sL s46 175 18) (sL s46 175 19) v41 v43 (fun (s54 : St) => w_X4_add s54 x5 x7 (sL s54 175 18) (sL s54 175 19) (fun (s62 : St) => ∀ v69 : Int64, v69 = (sL s62 175 18) → ∀ v71 : Int64, v71 = (sL s62 175 19) → w_X4_worthOf_b191 rec Φ (w_X4_worthOf_l93 rec Φ E197 n) s62 x1 x2 v69 v71 (x9 + 1) x10))))) ∧ ((r24 = 0) → w_X4_worthOf_b191 rec Φ (w_X4_worthOf_l93 rec Φ E197 n) st x1 x2 x5 x7 x9 x10)))
theorem t_X4_worthOf_l93 {θ : Th} {κ : Kx} {Ph : Ph} (hX : LX θ) {rec : St → Int32 → Int32 → (St → Prop) → Prop} {dR : Nat} (hrec : ∀ {d : Nat}, dR ≤ d → ∀ (st : St) (p1 : Int32) (p2 : Int32), ∀ {Φ : St → Prop}, rec st p1 p2 Φ → Ct θ κ.2.1 yX4_worthOf (ws_ yX4_worthOf cX4_worthOf 15 (none : Option Jvm.ClassFile.FieldType)) d [.ref (ad θ 175), .int p1, .int p2] st (pV Φ, noX)) {d : Nat} (hd : 7 ≤ d) (hdR : dR + 1 ≤ d) (C : Cx θ κ yX4_worthOf cX4_worthOf 15 (none : Option Jvm.ClassFile.FieldType) [] d) {Φ : St → Prop} (hn : ∀ st, Φ st → Ph.1 st none) {E197 : St → Int64 → Int64 → Prop} (hE197 : ∀ (st : St) (x5 : Int64) (x7 : Int64), E197 st x5 x7 → X θ κ Ph st 197 [(0, .ref (ad θ 175)), (5, .long x5), (7, .long x7)] []) : ∀ (n : Nat) (st : St) (x1 : Int32) (x2 : Int32) (x5 : Int64) (x7 : Int64) (x9 : Int32) (x10 : Int32), w_X4_worthOf_l93 rec Φ E197 n st x1 x2 x5 x7 x9 x10 → X θ κ Ph st 93 [(0, .ref (ad θ 175)), (1, .int x1), (2, .int x2), (5, .long x5), (7, .long x7), (9, .int x9), (10, .int x10)] [] := by
  intro n
  induction n with
  | zero => intro st x1 x2 x5 x7 x9 x10 h; exact h.elim
  | succ n hK93 =>
    intro st x1 x2 x5 x7 x9 x10 h
    rw [w_X4_worthOf_l93] at h
    refine X_iload C dX4_worthOf_93 6 rfl ?_
    refine X_aload_n C dX4_worthOf_95 rfl 0 rfl (isRV_r _) ?_
    refine X_getF (ci := 4) (j := 1) (q := (RX4, TX4, 54)) C rfl (by decide) q1767 rfl dX4_worthOf_96 (b := 177) (LX_S hX (k := 175) rfl) (LX_F hX (k := 175) (j := 1) rfl) rfl ?_
    refine X_bipush (v := 35) C dX4_worthOf_99 rfl ?_
    refine X_ialdS C (LX_S hX (k := 177) rfl) (LX_L hX (k := 177) rfl) (vp_dec rfl) rfl dX4_worthOf_101 ?_
    refine X_icmp_ge (tgt := 197) C dX4_worthOf_102 (by decide) (fun c23 => ?_) (fun c23 => ?_)
    · have h := h.1 c23
      refine X_sub [0, 3, 4] (lo2 := [(0, _), (5, _), (7, _)]) rfl ?_
      exact hE197 st x5 x7 h
    · have h := h.2 c23
      refine X_aload_n C dX4_worthOf_105 rfl 0 rfl (isRV_r _) ?_
      refine X_iload_n C dX4_worthOf_106 rfl 1 rfl ?_
      refine X_iload C dX4_worthOf_107 6 rfl ?_
      refine X_callVS (ci := 4) (q := (RX4, TX4, 54)) (As := [_, _]) (rest := []) C rfl (LX_S hX (k := 175) rfl) q2291 q2293 qs116 q136 q2294 ⟨rfl, nm_X4_isUnder⟩ rfl dX4_worthOf_109 (m_X4_isUnder (Cx_l C) hX (d := d - 1) (by omega) st x1 x10 h) (by omega) (by decide) (Nat.le_of_ble_eq_true rfl) (fun s30 w25 hE26 hP27 => ?_) (fun s31 E28 q29 hE26 hP27 => ?_)
      rotate_left
      · exact False.elim hP27
      obtain ⟨r24, rfl, rfl, h⟩ := hP27
      refine X_tls ?_
      refine X_if_ne (tgt := 118) C dX4_worthOf_112 (by decide) (fun c32 => ?_) (fun c32 => ?_)
      · have h := h.1 c32
        refine X_aload_n C dX4_worthOf_118 rfl 0 rfl (isRV_r _) ?_
        refine X_iload C dX4_worthOf_119 6 rfl ?_
        refine X_iload_n C dX4_worthOf_121 rfl 2 rfl ?_
        refine X_callVS (ci := 4) (q := (RX4, TX4, 54)) (As := [_, _]) (rest := []) C rfl (LX_S hX (k := 175) rfl) q2303 q2305 qs118 q136 q2306 ⟨rfl, nm_X4_worthOf⟩ rfl dX4_worthOf_122 (hrec (d := d - 1) (by omega) st x10 x2 h) (by omega) (by decide) (Nat.le_of_ble_eq_true rfl) (fun s34 w35 hE36 hP37 => ?_) (fun s40 E38 q39 hE36 hP37 => ?_)
        rotate_left
        · exact False.elim hP37
        obtain ⟨rfl, h⟩ := hP37
        refine X_tln ?_
        refine X_aload_n C dX4_worthOf_125 rfl 0 rfl (isRV_r _) ?_
        refine X_getS (ci := 4) (j := 18) (q := (RX4, TX4, 54)) C rfl (by decide) q1784 rfl dX4_worthOf_126 (LX_S hX (k := 175) rfl) (v := .long (sL s34 175 18)) rfl ?_
        refine X_topl (fun v41 e42 => ?_)
        have h := h v41 e42
        refine X_lstore C dX4_worthOf_129 (lo2 := [(11, _), (0, _), (1, _), (2, _), (5, _), (7, _), (9, _), (10, _)]) (by decide) rfl ?_
        refine X_aload_n C dX4_worthOf_131 rfl 1 rfl (isRV_r _) ?_
        refine X_getS (ci := 4) (j := 19) (q := (RX4, TX4, 54)) C rfl (by decide) q1785 rfl dX4_worthOf_132 (LX_S hX (k := 175) rfl) (v := .long (sL s34 175 19)) rfl ?_
        refine X_topl (fun v43 e44 => ?_)
        have h := h v43 e44
        refine X_lstore C dX4_worthOf_135 (lo2 := [(13, _), (11, _), (0, _), (1, _), (2, _), (5, _), (7, _), (9, _), (10, _)]) (by decide) rfl ?_
        refine X_aload_n C dX4_worthOf_137 rfl 2 rfl (isRV_r _) ?_
        refine X_iload_n C dX4_worthOf_138 rfl 3 rfl ?_
        refine X_iload C dX4_worthOf_139 7 rfl ?_
        refine X_callVS (ci := 4) (q := (RX4, TX4, 54)) (As := [_, _]) (rest := []) C rfl (LX_S hX (k := 175) rfl) q2307 q2309 qs119 q136 q2310 ⟨rfl, nm_X4_weighsUnder⟩ rfl dX4_worthOf_141 (m_X4_weighsUnder (Cx_l C) hX (d := d - 1) (by omega) s34 x1 x9 h) (by omega) (by decide) (Nat.le_of_ble_eq_true rfl) (fun s46 w47 hE48 hP49 => ?_) (fun s52 E50 q51 hE48 hP49 => ?_)
        rotate_left
        · exact False.elim hP49
        obtain ⟨rfl, h⟩ := hP49
        refine X_tln ?_
        refine X_aload_n C dX4_worthOf_144 rfl 2 rfl (isRV_r _) ?_
        refine X_aload_n C dX4_worthOf_145 rfl 2 rfl (isRV_r _) ?_
        refine X_getS (ci := 4) (j := 18) (q := (RX4, TX4, 54)) C rfl (by decide) q1784 rfl dX4_worthOf_146 (LX_S hX (k := 175) rfl) (v := .long (sL s46 175 18)) rfl ?_
        refine X_aload_n C dX4_worthOf_149 rfl 2 rfl (isRV_r _) ?_
        refine X_getS (ci := 4) (j := 19) (q := (RX4, TX4, 54)) C rfl (by decide) q1785 rfl dX4_worthOf_150 (LX_S hX (k := 175) rfl) (v := .long (sL s46 175 19)) rfl ?_
        refine X_lload C dX4_worthOf_153 1 rfl ?_
        refine X_lload C dX4_worthOf_155 0 rfl ?_
        refine X_callVS (ci := 4) (q := (RX4, TX4, 54)) (As := [_, _, _, _]) (rest := []) C rfl (LX_S hX (k := 175) rfl) q2140 q2142 qs93 q136 q2143 ⟨rfl, nm_X4_times⟩ rfl dX4_worthOf_157 (m_X4_times (Cx_l C) hX (d := d - 1) (by omega) s46 (sL s46 175 18) (sL s46 175 19) v41 v43 h) (by omega) (by decide) (Nat.le_of_ble_eq_true rfl) (fun s54 w55 hE56 hP57 => ?_) (fun s60 E58 q59 hE56 hP57 => ?_)
        rotate_left
        · exact False.elim hP57
        obtain ⟨rfl, h⟩ := hP57
        refine X_tln ?_
        refine X_aload_n C dX4_worthOf_160 rfl 2 rfl (isRV_r _) ?_
        refine X_lload C dX4_worthOf_161 5 rfl ?_
        refine X_lload C dX4_worthOf_163 6 rfl ?_
        refine X_aload_n C dX4_worthOf_165 rfl 2 rfl (isRV_r _) ?_
        refine X_getS (ci := 4) (j := 18) (q := (RX4, TX4, 54)) C rfl (by decide) q1784 rfl dX4_worthOf_166 (LX_S hX (k := 175) rfl) (v := .long (sL s54 175 18)) rfl ?_
        refine X_aload_n C dX4_worthOf_169 rfl 2 rfl (isRV_r _) ?_
        refine X_getS (ci := 4) (j := 19) (q := (RX4, TX4, 54)) C rfl (by decide) q1785 rfl dX4_worthOf_170 (LX_S hX (k := 175) rfl) (v := .long (sL s54 175 19)) rfl ?_
        refine X_callVS (ci := 4) (q := (RX4, TX4, 54)) (As := [_, _, _, _]) (rest := []) C rfl (LX_S hX (k := 175) rfl) q2144 q2146 qs94 q136 q2147 ⟨rfl, nm_X4_add⟩ rfl dX4_worthOf_173 (m_X4_add (Cx_l C) hX (d := d - 1) (by omega) s54 x5 x7 (sL s54 175 18) (sL s54 175 19) h) (by omega) (by decide) (Nat.le_of_ble_eq_true rfl) (fun s62 w63 hE64 hP65 => ?_) (fun s68 E66 q67 hE64 hP65 => ?_)
        rotate_left
        · exact False.elim hP65
        obtain ⟨rfl, h⟩ := hP65
        refine X_tln ?_
        refine X_aload_n C dX4_worthOf_176 rfl 2 rfl (isRV_r _) ?_
        refine X_getS (ci := 4) (j := 18) (q := (RX4, TX4, 54)) C rfl (by decide) q1784 rfl dX4_worthOf_177 (LX_S hX (k := 175) rfl) (v := .long (sL s62 175 18)) rfl ?_
        refine X_topl (fun v69 e70 => ?_)
        have h := h v69 e70
        refine X_lstore C dX4_worthOf_180 (lo2 := [(5, _), (13, _), (11, _), (0, _), (1, _), (2, _), (7, _), (9, _), (10, _)]) (by decide) rfl ?_
        refine X_aload_n C dX4_worthOf_182 rfl 3 rfl (isRV_r _) ?_
        refine X_getS (ci := 4) (j := 19) (q := (RX4, TX4, 54)) C rfl (by decide) q1785 rfl dX4_worthOf_183 (LX_S hX (k := 175) rfl) (v := .long (sL s62 175 19)) rfl ?_
        refine X_topl (fun v71 e72 => ?_)
        have h := h v71 e72
        refine X_lstore C dX4_worthOf_186 (lo2 := [(7, _), (5, _), (13, _), (11, _), (0, _), (1, _), (2, _), (9, _), (10, _)]) (by decide) rfl ?_
        refine X_iinc (v := (x9 + 1)) C (j := 7) dX4_worthOf_188 rfl rfl (lo2 := [(9, _), (7, _), (5, _), (13, _), (11, _), (0, _), (1, _), (2, _), (10, _)]) (by decide) rfl ?_
        refine X_sub [5, 6, 7, 2, 1, 0, 8] (lo2 := [(0, _), (1, _), (2, _), (5, _), (7, _), (9, _), (10, _)]) rfl ?_
        exact t_X4_worthOf_b191 hX hrec hd hdR C hn hK93 s62 x1 x2 v69 v71 (x9 + 1) x10 h
      · have h := h.2 c32
        refine X_goto (tgt := 191) C dX4_worthOf_115 (by decide) ?_
        exact t_X4_worthOf_b191 hX hrec hd hdR C hn hK93 st x1 x2 x5 x7 x9 x10 h
def w_X4_worthOf_b197 (rec : St → Int32 → Int32 → (St → Prop) → Prop) (Φ : St → Prop) (st : St) (x5 : Int64) (x7 : Int64) : Prop := w_X4_is st x5 x7 (fun (s75 : St) => Φ s75)
theorem t_X4_worthOf_b197 {θ : Th} {κ : Kx} {Ph : Ph} (hX : LX θ) {rec : St → Int32 → Int32 → (St → Prop) → Prop} {dR : Nat} (hrec : ∀ {d : Nat}, dR ≤ d → ∀ (st : St) (p1 : Int32) (p2 : Int32), ∀ {Φ : St → Prop}, rec st p1 p2 Φ → Ct θ κ.2.1 yX4_worthOf (ws_ yX4_worthOf cX4_worthOf 15 (none : Option Jvm.ClassFile.FieldType)) d [.ref (ad θ 175), .int p1, .int p2] st (pV Φ, noX)) {d : Nat} (hd : 7 ≤ d) (hdR : dR + 1 ≤ d) (C : Cx θ κ yX4_worthOf cX4_worthOf 15 (none : Option Jvm.ClassFile.FieldType) [] d) {Φ : St → Prop} (hn : ∀ st, Φ st → Ph.1 st none) (st : St) (x5 : Int64) (x7 : Int64) (h : w_X4_worthOf_b197 rec Φ st x5 x7) : X θ κ Ph st 197 [(0, .ref (ad θ 175)), (5, .long x5), (7, .long x7)] [] := by
  unfold w_X4_worthOf_b197 at h
  refine X_aload_n C dX4_worthOf_197 rfl 0 rfl (isRV_r _) ?_
  refine X_lload C dX4_worthOf_198 1 rfl ?_
  refine X_lload C dX4_worthOf_200 2 rfl ?_
  refine X_callVS (ci := 4) (q := (RX4, TX4, 54)) (As := [_, _]) (rest := []) C rfl (LX_S hX (k := 175) rfl) q2104 q2106 qs86 q136 q2107 ⟨rfl, nm_X4_is⟩ rfl dX4_worthOf_202 (m_X4_is (Cx_l C) hX (d := d - 1) (by omega) st x5 x7 h) (by omega) (by decide) (Nat.le_of_ble_eq_true rfl) (fun s75 w76 hE77 hP78 => ?_) (fun s81 E79 q80 hE77 hP78 => ?_)
  rotate_left
  · exact False.elim hP78
  obtain ⟨rfl, h⟩ := hP78
  refine X_tln ?_
  exact X_vret C rfl dX4_worthOf_205 (hn s75 h)
def w_X4_worthOf_b73 (rec : St → Int32 → Int32 → (St → Prop) → Prop) (Φ : St → Prop) (st : St) (x1 : Int32) (x2 : Int32) : Prop := ∀ v17 : Int64, v17 = (sL st 175 18) → ∀ v19 : Int64, v19 = (sL st 175 19) → ∀ v21 : Int32, v21 = (x1 + 1) → w_X4_worthOf_l93 rec Φ (fun (s73 : St) (x5 : Int64) (x7 : Int64) => w_X4_worthOf_b197 rec Φ s73 x5 x7) gFU st x1 x2 v17 v19 0 v21
theorem t_X4_worthOf_b73 {θ : Th} {κ : Kx} {Ph : Ph} (hX : LX θ) {rec : St → Int32 → Int32 → (St → Prop) → Prop} {dR : Nat} (hrec : ∀ {d : Nat}, dR ≤ d → ∀ (st : St) (p1 : Int32) (p2 : Int32), ∀ {Φ : St → Prop}, rec st p1 p2 Φ → Ct θ κ.2.1 yX4_worthOf (ws_ yX4_worthOf cX4_worthOf 15 (none : Option Jvm.ClassFile.FieldType)) d [.ref (ad θ 175), .int p1, .int p2] st (pV Φ, noX)) {d : Nat} (hd : 7 ≤ d) (hdR : dR + 1 ≤ d) (C : Cx θ κ yX4_worthOf cX4_worthOf 15 (none : Option Jvm.ClassFile.FieldType) [] d) {Φ : St → Prop} (hn : ∀ st, Φ st → Ph.1 st none) (st : St) (x1 : Int32) (x2 : Int32) (h : w_X4_worthOf_b73 rec Φ st x1 x2) : X θ κ Ph st 73 [(0, .ref (ad θ 175)), (1, .int x1), (2, .int x2)] [] := by
  unfold w_X4_worthOf_b73 at h
  refine X_aload_n C dX4_worthOf_73 rfl 0 rfl (isRV_r _) ?_
  refine X_getS (ci := 4) (j := 18) (q := (RX4, TX4, 54)) C rfl (by decide) q1784 rfl dX4_worthOf_74 (LX_S hX (k := 175) rfl) (v := .long (sL st 175 18)) rfl ?_
  refine X_topl (fun v17 e18 => ?_)
  have h := h v17 e18
  refine X_lstore C dX4_worthOf_77 (lo2 := [(5, _), (0, _), (1, _), (2, _)]) (by decide) rfl ?_
  refine X_aload_n C dX4_worthOf_79 rfl 1 rfl (isRV_r _) ?_
  refine X_getS (ci := 4) (j := 19) (q := (RX4, TX4, 54)) C rfl (by decide) q1785 rfl dX4_worthOf_80 (LX_S hX (k := 175) rfl) (v := .long (sL st 175 19)) rfl ?_
  refine X_topl (fun v19 e20 => ?_)
  have h := h v19 e20
  refine X_lstore C dX4_worthOf_83 (lo2 := [(7, _), (5, _), (0, _), (1, _), (2, _)]) (by decide) rfl ?_
  refine X_iconst (v := 0) C dX4_worthOf_85 rfl ?_
  refine X_istore C dX4_worthOf_86 (lo2 := [(9, _), (7, _), (5, _), (0, _), (1, _), (2, _)]) (by decide) rfl ?_
  refine X_iload_n C dX4_worthOf_88 rfl 4 rfl ?_
  refine X_iconst (v := 1) C dX4_worthOf_89 rfl ?_
  refine X_iadd C dX4_worthOf_90 ?_
  refine X_topi (fun v21 e22 => ?_)
  have h := h v21 e22
  refine X_istore C dX4_worthOf_91 (lo2 := [(10, _), (9, _), (7, _), (5, _), (0, _), (1, _), (2, _)]) (by decide) rfl ?_
  refine X_sub [4, 5, 6, 3, 2, 1, 0] (lo2 := [(0, _), (1, _), (2, _), (5, _), (7, _), (9, _), (10, _)]) rfl ?_
  refine t_X4_worthOf_l93 hX hrec hd hdR C hn ?_ gFU st x1 x2 v17 v19 0 v21 h
  · intro s73 x5 x7 h
    exact t_X4_worthOf_b197 hX hrec hd hdR C hn s73 x5 x7 h
def w_X4_worthOf_b39 (rec : St → Int32 → Int32 → (St → Prop) → Prop) (Φ : St → Prop) (st : St) (x1 : Int32) (x2 : Int32) (x3 : Int32) (x4 : Int32) (z0 : Int64) : Prop := w_X4_is st z0 1 (fun (s9 : St) => ((x2 ≠ 0) → w_X4_worthOf_b73 rec Φ s9 x1 x2) ∧ ((x2 = 0) → ((x4 ≤ 0) → w_X4_worthOf_b73 rec Φ s9 x1 x2) ∧ ((¬ x4 ≤ 0) → w_X4_u s9 x3 (fun (s84 : St) => w_X4_times s84 x4.toInt64 1 (sL s84 175 18) (sL s84 175 19) (fun (s92 : St) => w_X4_worthOf_b73 rec Φ s92 x1 x2)))))
theorem t_X4_worthOf_b39 {θ : Th} {κ : Kx} {Ph : Ph} (hX : LX θ) {rec : St → Int32 → Int32 → (St → Prop) → Prop} {dR : Nat} (hrec : ∀ {d : Nat}, dR ≤ d → ∀ (st : St) (p1 : Int32) (p2 : Int32), ∀ {Φ : St → Prop}, rec st p1 p2 Φ → Ct θ κ.2.1 yX4_worthOf (ws_ yX4_worthOf cX4_worthOf 15 (none : Option Jvm.ClassFile.FieldType)) d [.ref (ad θ 175), .int p1, .int p2] st (pV Φ, noX)) {d : Nat} (hd : 7 ≤ d) (hdR : dR + 1 ≤ d) (C : Cx θ κ yX4_worthOf cX4_worthOf 15 (none : Option Jvm.ClassFile.FieldType) [] d) {Φ : St → Prop} (hn : ∀ st, Φ st → Ph.1 st none) (st : St) (x1 : Int32) (x2 : Int32) (x3 : Int32) (x4 : Int32) (z0 : Int64) (h : w_X4_worthOf_b39 rec Φ st x1 x2 x3 x4 z0) : X θ κ Ph st 39 [(0, .ref (ad θ 175)), (1, .int x1), (2, .int x2), (3, .int x3), (4, .int x4)] [.long z0, .ref (ad θ 175)] := by
  unfold w_X4_worthOf_b39 at h
  refine X_lconst (v := 1) C dX4_worthOf_39 rfl ?_
  refine X_callVS (ci := 4) (q := (RX4, TX4, 54)) (As := [_, _]) (rest := []) C rfl (LX_S hX (k := 175) rfl) q2104 q2106 qs86 q136 q2107 ⟨rfl, nm_X4_is⟩ rfl dX4_worthOf_40 (m_X4_is (Cx_l C) hX (d := d - 1) (by omega) st z0 1 h) (by omega) (by decide) (Nat.le_of_ble_eq_true rfl) (fun s9 w10 hE11 hP12 => ?_) (fun s15 E13 q14 hE11 hP12 => ?_)
  rotate_left
  · exact False.elim hP12
  obtain ⟨rfl, h⟩ := hP12
  refine X_tln ?_
  refine X_iload_n C dX4_worthOf_43 rfl 2 rfl ?_
  refine X_if_ne (tgt := 73) C dX4_worthOf_44 (by decide) (fun c16 => ?_) (fun c16 => ?_)
  · have h := h.1 c16
    refine X_sub [0, 1, 2] (lo2 := [(0, _), (1, _), (2, _)]) rfl ?_
    exact t_X4_worthOf_b73 hX hrec hd hdR C hn s9 x1 x2 h
  · have h := h.2 c16
    refine X_iload C dX4_worthOf_47 4 rfl ?_
    refine X_if_le (tgt := 73) C dX4_worthOf_49 (by decide) (fun c82 => ?_) (fun c82 => ?_)
    · have h := h.1 c82
      refine X_sub [0, 1, 2] (lo2 := [(0, _), (1, _), (2, _)]) rfl ?_
      exact t_X4_worthOf_b73 hX hrec hd hdR C hn s9 x1 x2 h
    · have h := h.2 c82
      refine X_aload_n C dX4_worthOf_52 rfl 0 rfl (isRV_r _) ?_
      refine X_iload_n C dX4_worthOf_53 rfl 3 rfl ?_
      refine X_callVS (ci := 4) (q := (RX4, TX4, 54)) (As := [_]) (rest := []) C rfl (LX_S hX (k := 175) rfl) q2042 q2044 qs74 q136 q2045 ⟨rfl, nm_X4_u⟩ rfl dX4_worthOf_54 (m_X4_u (Cx_l C) hX (d := d - 1) (by omega) s9 x3 h) (by omega) (by decide) (Nat.le_of_ble_eq_true rfl) (fun s84 w85 hE86 hP87 => ?_) (fun s90 E88 q89 hE86 hP87 => ?_)
      rotate_left
      · exact False.elim hP87
      obtain ⟨rfl, h⟩ := hP87
      refine X_tln ?_
      refine X_aload_n C dX4_worthOf_57 rfl 0 rfl (isRV_r _) ?_
      refine X_iload C dX4_worthOf_58 4 rfl ?_
      refine X_i2l C dX4_worthOf_60 ?_
      refine X_lconst (v := 1) C dX4_worthOf_61 rfl ?_
      refine X_aload_n C dX4_worthOf_62 rfl 0 rfl (isRV_r _) ?_
      refine X_getS (ci := 4) (j := 18) (q := (RX4, TX4, 54)) C rfl (by decide) q1784 rfl dX4_worthOf_63 (LX_S hX (k := 175) rfl) (v := .long (sL s84 175 18)) rfl ?_
      refine X_aload_n C dX4_worthOf_66 rfl 0 rfl (isRV_r _) ?_
      refine X_getS (ci := 4) (j := 19) (q := (RX4, TX4, 54)) C rfl (by decide) q1785 rfl dX4_worthOf_67 (LX_S hX (k := 175) rfl) (v := .long (sL s84 175 19)) rfl ?_
      refine X_callVS (ci := 4) (q := (RX4, TX4, 54)) (As := [_, _, _, _]) (rest := []) C rfl (LX_S hX (k := 175) rfl) q2140 q2142 qs93 q136 q2143 ⟨rfl, nm_X4_times⟩ rfl dX4_worthOf_70 (m_X4_times (Cx_l C) hX (d := d - 1) (by omega) s84 x4.toInt64 1 (sL s84 175 18) (sL s84 175 19) h) (by omega) (by decide) (Nat.le_of_ble_eq_true rfl) (fun s92 w93 hE94 hP95 => ?_) (fun s98 E96 q97 hE94 hP95 => ?_)
      rotate_left
      · exact False.elim hP95
      obtain ⟨rfl, h⟩ := hP95
      refine X_tln ?_
      refine X_sub [0, 1, 2] (lo2 := [(0, _), (1, _), (2, _)]) rfl ?_
      exact t_X4_worthOf_b73 hX hrec hd hdR C hn s92 x1 x2 h
def w_X4_worthOf (rec : St → Int32 → Int32 → (St → Prop) → Prop) (st : St) (p1 : Int32) (p2 : Int32) (Φ : St → Prop) : Prop := vp_in (36 + (3 * p1)) 97 ∧ ∀ v2 : Int32, v2 = (sI st 177 (36 + (3 * p1)).toNatClampNeg) → vp_in ((36 + (3 * p1)) + 1) 97 ∧ ∀ v5 : Int32, v5 = (sI st 177 ((36 + (3 * p1)) + 1).toNatClampNeg) → ((p2 = 0) → w_X4_worthOf_b39 rec Φ st p1 p2 v2 v5 0) ∧ ((¬ p2 = 0) → w_X4_worthOf_b39 rec Φ st p1 p2 v2 v5 v5.toInt64)
theorem e_X4_worthOf : plainFor yX4_worthOf = true := plainFor_of_name (by decide +kernel)
theorem m_X4_worthOf {θ : Th} {l : Launch} (hl0 : l.stackTraces = false) (hX : LX θ) {rec : St → Int32 → Int32 → (St → Prop) → Prop} {dR : Nat} (hrec : ∀ {d : Nat}, dR ≤ d → ∀ (st : St) (p1 : Int32) (p2 : Int32), ∀ {Φ : St → Prop}, rec st p1 p2 Φ → Ct θ l yX4_worthOf (ws_ yX4_worthOf cX4_worthOf 15 (none : Option Jvm.ClassFile.FieldType)) d [.ref (ad θ 175), .int p1, .int p2] st (pV Φ, noX)) {d : Nat} (hd : 7 ≤ d) (hdR : dR + 1 ≤ d) (st : St) (p1 : Int32) (p2 : Int32) {Φ : St → Prop} (h : w_X4_worthOf rec st p1 p2 Φ) : Ct θ l yX4_worthOf (ws_ yX4_worthOf cX4_worthOf 15 (none : Option Jvm.ClassFile.FieldType)) d [.ref (ad θ 175), .int p1, .int p2] st (pV Φ, noX) := by
  refine Ct_entry hl0 e_X4_worthOf (Nat.le_of_ble_eq_true rfl) (fun κ hκ _ C => ?_)
  subst hκ
  have hn : ∀ st, Φ st → ((pV Φ, noX) : Ph).1 st none := fun st q => ⟨rfl, q⟩
  change X _ _ _ _ _ [(0, .ref (ad θ 175)), (1, .int p1), (2, .int p2)] _
  unfold w_X4_worthOf at h
  refine X_aload_n C dX4_worthOf_0 rfl 0 rfl (isRV_r _) ?_
  refine X_getF (ci := 4) (j := 1) (q := (RX4, TX4, 54)) C rfl (by decide) q1767 rfl dX4_worthOf_1 (b := 177) (LX_S hX (k := 175) rfl) (LX_F hX (k := 175) (j := 1) rfl) rfl ?_
  refine X_bipush (v := 36) C dX4_worthOf_4 rfl ?_
  refine X_iconst (v := 3) C dX4_worthOf_6 rfl ?_
  refine X_iload_n C dX4_worthOf_7 rfl 1 rfl ?_
  refine X_imul C dX4_worthOf_8 ?_
  refine X_iadd C dX4_worthOf_9 ?_
  have g1 := h.1
  have h := h.2
  refine X_ialdS C (LX_S hX (k := 177) rfl) (LX_L hX (k := 177) rfl) g1 rfl dX4_worthOf_10 ?_
  refine X_topi (fun v2 e3 => ?_)
  have h := h v2 e3
  refine X_istore_n C dX4_worthOf_11 rfl (lo2 := [(3, _), (0, _), (1, _), (2, _)]) (by decide) rfl ?_
  refine X_aload_n C dX4_worthOf_12 rfl 1 rfl (isRV_r _) ?_
  refine X_getF (ci := 4) (j := 1) (q := (RX4, TX4, 54)) C rfl (by decide) q1767 rfl dX4_worthOf_13 (b := 177) (LX_S hX (k := 175) rfl) (LX_F hX (k := 175) (j := 1) rfl) rfl ?_
  refine X_bipush (v := 36) C dX4_worthOf_16 rfl ?_
  refine X_iconst (v := 3) C dX4_worthOf_18 rfl ?_
  refine X_iload_n C dX4_worthOf_19 rfl 2 rfl ?_
  refine X_imul C dX4_worthOf_20 ?_
  refine X_iadd C dX4_worthOf_21 ?_
  refine X_iconst (v := 1) C dX4_worthOf_22 rfl ?_
  refine X_iadd C dX4_worthOf_23 ?_
  have g4 := h.1
  have h := h.2
  refine X_ialdS C (LX_S hX (k := 177) rfl) (LX_L hX (k := 177) rfl) g4 rfl dX4_worthOf_24 ?_
  refine X_topi (fun v5 e6 => ?_)
  have h := h v5 e6
  refine X_istore C dX4_worthOf_25 (lo2 := [(4, _), (3, _), (0, _), (1, _), (2, _)]) (by decide) rfl ?_
  refine X_aload_n C dX4_worthOf_27 rfl 2 rfl (isRV_r _) ?_
  refine X_iload_n C dX4_worthOf_28 rfl 4 rfl ?_
  refine X_if_eq (tgt := 38) C dX4_worthOf_29 (by decide) (fun c7 => ?_) (fun c7 => ?_)
  · have h := h.1 c7
    refine X_lconst (v := 0) C dX4_worthOf_38 rfl ?_
    refine X_sub [2, 3, 4, 1, 0] (lo2 := [(0, _), (1, _), (2, _), (3, _), (4, _)]) rfl ?_
    exact t_X4_worthOf_b39 hX hrec hd hdR C hn st p1 p2 v2 v5 0 h
  · have h := h.2 c7
    refine X_iload C dX4_worthOf_32 0 rfl ?_
    refine X_i2l C dX4_worthOf_34 ?_
    refine X_goto (tgt := 39) C dX4_worthOf_35 (by decide) ?_
    refine X_sub [2, 3, 4, 1, 0] (lo2 := [(0, _), (1, _), (2, _), (3, _), (4, _)]) rfl ?_
    exact t_X4_worthOf_b39 hX hrec hd hdR C hn st p1 p2 v2 v5 v5.toInt64 h

def w_X4_worthOf_f : Nat → St → Int32 → Int32 → (St → Prop) → Prop
  | 0, _, _, _, _ => False
  | n + 1, st, p1, p2, Φ => w_X4_worthOf (w_X4_worthOf_f n) st p1 p2 Φ
theorem m_X4_worthOf_f {θ : Th} {l : Launch} (hl0 : l.stackTraces = false) (hX : LX θ) : ∀ (n : Nat) {d : Nat}, 7 + 1 * n ≤ d → ∀ (st : St) (p1 : Int32) (p2 : Int32), ∀ {Φ : St → Prop}, w_X4_worthOf_f n st p1 p2 Φ → Ct θ l yX4_worthOf (ws_ yX4_worthOf cX4_worthOf 15 (none : Option Jvm.ClassFile.FieldType)) d [.ref (ad θ 175), .int p1, .int p2] st (pV Φ, noX) := by
  intro n
  induction n with
  | zero => intro d hd st p1 p2 Φ h; exact h.elim
  | succ n ih =>
    intro d hd st p1 p2 Φ h
    exact m_X4_worthOf hl0 hX (dR := 7 + 1 * n) ih (by omega) (by omega) st p1 p2 h

theorem nm_X4_worth : yX4_worth.cls ≠ "java/lang/invoke/MethodHandle" ∧ yX4_worth.cls ≠ "java/lang/invoke/VarHandle" ∧ (parseMethodDescriptor yX4_worth.desc).map (fun d => d.parameters.length) = some 2 := by decide +kernel
def w_X4_worth_b19 (Φ : St → Int64 → Prop) (st : St) : Prop := w_X4_findsFar st 1 (fun (s11 : St) (r10 : Int64) => Φ s11 r10)
theorem t_X4_worth_b19 {θ : Th} {κ : Kx} {Ph : Ph} (hX : LX θ) {d : Nat} (hd : 16 ≤ d) (C : Cx θ κ yX4_worth cX4_worth 7 (some Jvm.ClassFile.FieldType.long) [] d) {Φ : St → Int64 → Prop} (hn : ∀ st r, Φ st r → Ph.1 st (some (.long r))) (st : St) (h : w_X4_worth_b19 Φ st) : X θ κ Ph st 19 [(0, .ref (ad θ 175))] [] := by
  unfold w_X4_worth_b19 at h
  refine X_aload_n C dX4_worth_19 rfl 0 rfl (isRV_r _) ?_
  refine X_iconst (v := 1) C dX4_worth_20 rfl ?_
  refine X_callVS (ci := 4) (q := (RX4, TX4, 54)) (As := [_]) (rest := []) C rfl (LX_S hX (k := 175) rfl) q2033 q2035 qs72 q136 q2036 ⟨rfl, nm_X4_findsFar⟩ rfl dX4_worth_21 (m_X4_findsFar (Cx_l C) hX (d := d - 1) (by omega) st 1 h) (by omega) (by decide) (Nat.le_of_ble_eq_true rfl) (fun s11 w12 hE13 hP14 => ?_) (fun s17 E15 q16 hE13 hP14 => ?_)
  rotate_left
  · exact False.elim hP14
  obtain ⟨r10, rfl, h⟩ := hP14
  refine X_tls ?_
  exact X_lret C rfl dX4_worth_24 (hn s11 _ h)
def w_X4_worth_b127 (Φ : St → Int64 → Prop) (st : St) (x2 : Int32) : Prop := (((sI st 175 20) = 0) → ((x2 ≠ 0) → Φ st (sL st 175 19)) ∧ ((x2 = 0) → Φ st (sL st 175 18))) ∧ ((¬ (sI st 175 20) = 0) → w_X4_findsFar st 6 (fun (s46 : St) (r45 : Int64) => Φ s46 r45))
theorem t_X4_worth_b127 {θ : Th} {κ : Kx} {Ph : Ph} (hX : LX θ) {d : Nat} (hd : 16 ≤ d) (C : Cx θ κ yX4_worth cX4_worth 7 (some Jvm.ClassFile.FieldType.long) [] d) {Φ : St → Int64 → Prop} (hn : ∀ st r, Φ st r → Ph.1 st (some (.long r))) (st : St) (x2 : Int32) (h : w_X4_worth_b127 Φ st x2) : X θ κ Ph st 127 [(0, .ref (ad θ 175)), (2, .int x2)] [] := by
  unfold w_X4_worth_b127 at h
  refine X_aload_n C dX4_worth_127 rfl 0 rfl (isRV_r _) ?_
  refine X_getS (ci := 4) (j := 20) (q := (RX4, TX4, 54)) C rfl (by decide) q1786 rfl dX4_worth_128 (LX_S hX (k := 175) rfl) (v := .int (sI st 175 20)) rfl ?_
  refine X_if_eq (tgt := 143) C dX4_worth_131 (by decide) (fun c43 => ?_) (fun c43 => ?_)
  · have h := h.1 c43
    refine X_iload_n C dX4_worth_143 rfl 1 rfl ?_
    refine X_if_ne (tgt := 154) C dX4_worth_144 (by decide) (fun c44 => ?_) (fun c44 => ?_)
    · have h := h.1 c44
      refine X_aload_n C dX4_worth_154 rfl 0 rfl (isRV_r _) ?_
      refine X_getS (ci := 4) (j := 19) (q := (RX4, TX4, 54)) C rfl (by decide) q1785 rfl dX4_worth_155 (LX_S hX (k := 175) rfl) (v := .long (sL st 175 19)) rfl ?_
      exact X_lret C rfl dX4_worth_158 (hn st _ h)
    · have h := h.2 c44
      refine X_aload_n C dX4_worth_147 rfl 0 rfl (isRV_r _) ?_
      refine X_getS (ci := 4) (j := 18) (q := (RX4, TX4, 54)) C rfl (by decide) q1784 rfl dX4_worth_148 (LX_S hX (k := 175) rfl) (v := .long (sL st 175 18)) rfl ?_
      refine X_goto (tgt := 158) C dX4_worth_151 (by decide) ?_
      exact X_lret C rfl dX4_worth_158 (hn st _ h)
  · have h := h.2 c43
    refine X_aload_n C dX4_worth_134 rfl 0 rfl (isRV_r _) ?_
    refine X_bipush (v := 6) C dX4_worth_135 rfl ?_
    refine X_callVS (ci := 4) (q := (RX4, TX4, 54)) (As := [_]) (rest := []) C rfl (LX_S hX (k := 175) rfl) q2033 q2035 qs72 q136 q2036 ⟨rfl, nm_X4_findsFar⟩ rfl dX4_worth_137 (m_X4_findsFar (Cx_l C) hX (d := d - 1) (by omega) st 6 h) (by omega) (by decide) (Nat.le_of_ble_eq_true rfl) (fun s46 w47 hE48 hP49 => ?_) (fun s52 E50 q51 hE48 hP49 => ?_)
    rotate_left
    · exact False.elim hP49
    obtain ⟨r45, rfl, h⟩ := hP49
    refine X_tls ?_
    refine X_goto (tgt := 158) C dX4_worth_140 (by decide) ?_
    exact X_lret C rfl dX4_worth_158 (hn s46 _ h)
def w_X4_worth_b84 (Φ : St → Int64 → Prop) (st : St) (x1 : Int32) (x2 : Int32) (x3 : Int64) (x5 : Int64) : Prop := ((x1 ≠ 2) → w_X4_worth_b127 Φ st x2) ∧ ((x1 = 2) → (((sI st 175 20) ≠ 0) → w_X4_worth_b127 Φ st x2) ∧ (((sI st 175 20) = 0) → (((sL st 175 18) ≠ 0) → w_X4_by st x3 x5 (sL st 175 18) (sL st 175 19) (fun (s56 : St) => w_X4_worth_b127 Φ s56 x2)) ∧ (((sL st 175 18) = 0) → w_X4_findsFar st 7 (fun (s64 : St) (r63 : Int64) => Φ s64 r63))))
theorem t_X4_worth_b84 {θ : Th} {κ : Kx} {Ph : Ph} (hX : LX θ) {d : Nat} (hd : 16 ≤ d) (C : Cx θ κ yX4_worth cX4_worth 7 (some Jvm.ClassFile.FieldType.long) [] d) {Φ : St → Int64 → Prop} (hn : ∀ st r, Φ st r → Ph.1 st (some (.long r))) (st : St) (x1 : Int32) (x2 : Int32) (x3 : Int64) (x5 : Int64) (h : w_X4_worth_b84 Φ st x1 x2 x3 x5) : X θ κ Ph st 84 [(0, .ref (ad θ 175)), (1, .int x1), (2, .int x2), (3, .long x3), (5, .long x5)] [] := by
  unfold w_X4_worth_b84 at h
  refine X_iload_n C dX4_worth_84 rfl 1 rfl ?_
  refine X_iconst (v := 2) C dX4_worth_85 rfl ?_
  refine X_icmp_ne (tgt := 127) C dX4_worth_86 (by decide) (fun c42 => ?_) (fun c42 => ?_)
  · have h := h.1 c42
    refine X_sub [0, 2] (lo2 := [(0, _), (2, _)]) rfl ?_
    exact t_X4_worth_b127 hX hd C hn st x2 h
  · have h := h.2 c42
    refine X_aload_n C dX4_worth_89 rfl 0 rfl (isRV_r _) ?_
    refine X_getS (ci := 4) (j := 20) (q := (RX4, TX4, 54)) C rfl (by decide) q1786 rfl dX4_worth_90 (LX_S hX (k := 175) rfl) (v := .int (sI st 175 20)) rfl ?_
    refine X_if_ne (tgt := 127) C dX4_worth_93 (by decide) (fun c53 => ?_) (fun c53 => ?_)
    · have h := h.1 c53
      refine X_sub [0, 2] (lo2 := [(0, _), (2, _)]) rfl ?_
      exact t_X4_worth_b127 hX hd C hn st x2 h
    · have h := h.2 c53
      refine X_aload_n C dX4_worth_96 rfl 0 rfl (isRV_r _) ?_
      refine X_getS (ci := 4) (j := 18) (q := (RX4, TX4, 54)) C rfl (by decide) q1784 rfl dX4_worth_97 (LX_S hX (k := 175) rfl) (v := .long (sL st 175 18)) rfl ?_
      refine X_lconst (v := 0) C dX4_worth_100 rfl ?_
      refine X_lcmp_ne (tgt := 112) C dX4_worth_101 dX4_worth_102 (by decide) (fun c54 => ?_) (fun c54 => ?_)
      · have h := h.1 c54
        refine X_aload_n C dX4_worth_112 rfl 0 rfl (isRV_r _) ?_
        refine X_lload_n C dX4_worth_113 rfl 3 rfl ?_
        refine X_lload C dX4_worth_114 4 rfl ?_
        refine X_aload_n C dX4_worth_116 rfl 0 rfl (isRV_r _) ?_
        refine X_getS (ci := 4) (j := 18) (q := (RX4, TX4, 54)) C rfl (by decide) q1784 rfl dX4_worth_117 (LX_S hX (k := 175) rfl) (v := .long (sL st 175 18)) rfl ?_
        refine X_aload_n C dX4_worth_120 rfl 0 rfl (isRV_r _) ?_
        refine X_getS (ci := 4) (j := 19) (q := (RX4, TX4, 54)) C rfl (by decide) q1785 rfl dX4_worth_121 (LX_S hX (k := 175) rfl) (v := .long (sL st 175 19)) rfl ?_
        refine X_callVS (ci := 4) (q := (RX4, TX4, 54)) (As := [_, _, _, _]) (rest := []) C rfl (LX_S hX (k := 175) rfl) q2088 q2090 qs83 q136 q2091 ⟨rfl, nm_X4_by⟩ rfl dX4_worth_124 (m_X4_by (Cx_l C) hX (d := d - 1) (by omega) st x3 x5 (sL st 175 18) (sL st 175 19) h) (by omega) (by decide) (Nat.le_of_ble_eq_true rfl) (fun s56 w57 hE58 hP59 => ?_) (fun s62 E60 q61 hE58 hP59 => ?_)
        rotate_left
        · exact False.elim hP59
        obtain ⟨rfl, h⟩ := hP59
        refine X_tln ?_
        refine X_sub [0, 2] (lo2 := [(0, _), (2, _)]) rfl ?_
        exact t_X4_worth_b127 hX hd C hn s56 x2 h
      · have h := h.2 c54
        refine X_aload_n C dX4_worth_105 rfl 0 rfl (isRV_r _) ?_
        refine X_bipush (v := 7) C dX4_worth_106 rfl ?_
        refine X_callVS (ci := 4) (q := (RX4, TX4, 54)) (As := [_]) (rest := []) C rfl (LX_S hX (k := 175) rfl) q2033 q2035 qs72 q136 q2036 ⟨rfl, nm_X4_findsFar⟩ rfl dX4_worth_108 (m_X4_findsFar (Cx_l C) hX (d := d - 1) (by omega) st 7 h) (by omega) (by decide) (Nat.le_of_ble_eq_true rfl) (fun s64 w65 hE66 hP67 => ?_) (fun s70 E68 q69 hE66 hP67 => ?_)
        rotate_left
        · exact False.elim hP67
        obtain ⟨r63, rfl, h⟩ := hP67
        refine X_tls ?_
        exact X_lret C rfl dX4_worth_111 (hn s64 _ h)
def w_X4_worth_b56 (Φ : St → Int64 → Prop) (st : St) (x1 : Int32) (x2 : Int32) : Prop := ∀ v37 : Int64, v37 = (sL st 175 18) → ∀ v39 : Int64, v39 = (sL st 175 19) → ((x1 ≤ 0) → w_X4_worth_b84 Φ st x1 x2 v37 v39) ∧ ((¬ x1 ≤ 0) → (((sI st 175 20) ≠ 0) → w_X4_worth_b84 Φ st x1 x2 v37 v39) ∧ (((sI st 175 20) = 0) → (w_X4_worthOf_f 8) st 0 1 (fun (s73 : St) => w_X4_worth_b84 Φ s73 x1 x2 v37 v39)))
theorem t_X4_worth_b56 {θ : Th} {κ : Kx} {Ph : Ph} (hX : LX θ) {d : Nat} (hd : 16 ≤ d) (C : Cx θ κ yX4_worth cX4_worth 7 (some Jvm.ClassFile.FieldType.long) [] d) {Φ : St → Int64 → Prop} (hn : ∀ st r, Φ st r → Ph.1 st (some (.long r))) (st : St) (x1 : Int32) (x2 : Int32) (h : w_X4_worth_b56 Φ st x1 x2) : X θ κ Ph st 56 [(0, .ref (ad θ 175)), (1, .int x1), (2, .int x2)] [] := by
  unfold w_X4_worth_b56 at h
  refine X_aload_n C dX4_worth_56 rfl 0 rfl (isRV_r _) ?_
  refine X_getS (ci := 4) (j := 18) (q := (RX4, TX4, 54)) C rfl (by decide) q1784 rfl dX4_worth_57 (LX_S hX (k := 175) rfl) (v := .long (sL st 175 18)) rfl ?_
  refine X_topl (fun v37 e38 => ?_)
  have h := h v37 e38
  refine X_lstore_n C dX4_worth_60 rfl (lo2 := [(3, _), (0, _), (1, _), (2, _)]) (by decide) rfl ?_
  refine X_aload_n C dX4_worth_61 rfl 1 rfl (isRV_r _) ?_
  refine X_getS (ci := 4) (j := 19) (q := (RX4, TX4, 54)) C rfl (by decide) q1785 rfl dX4_worth_62 (LX_S hX (k := 175) rfl) (v := .long (sL st 175 19)) rfl ?_
  refine X_topl (fun v39 e40 => ?_)
  have h := h v39 e40
  refine X_lstore C dX4_worth_65 (lo2 := [(5, _), (3, _), (0, _), (1, _), (2, _)]) (by decide) rfl ?_
  refine X_iload_n C dX4_worth_67 rfl 3 rfl ?_
  refine X_if_le (tgt := 84) C dX4_worth_68 (by decide) (fun c41 => ?_) (fun c41 => ?_)
  · have h := h.1 c41
    refine X_sub [2, 3, 4, 1, 0] (lo2 := [(0, _), (1, _), (2, _), (3, _), (5, _)]) rfl ?_
    exact t_X4_worth_b84 hX hd C hn st x1 x2 v37 v39 h
  · have h := h.2 c41
    refine X_aload_n C dX4_worth_71 rfl 2 rfl (isRV_r _) ?_
    refine X_getS (ci := 4) (j := 20) (q := (RX4, TX4, 54)) C rfl (by decide) q1786 rfl dX4_worth_72 (LX_S hX (k := 175) rfl) (v := .int (sI st 175 20)) rfl ?_
    refine X_if_ne (tgt := 84) C dX4_worth_75 (by decide) (fun c71 => ?_) (fun c71 => ?_)
    · have h := h.1 c71
      refine X_sub [2, 3, 4, 1, 0] (lo2 := [(0, _), (1, _), (2, _), (3, _), (5, _)]) rfl ?_
      exact t_X4_worth_b84 hX hd C hn st x1 x2 v37 v39 h
    · have h := h.2 c71
      refine X_aload_n C dX4_worth_78 rfl 2 rfl (isRV_r _) ?_
      refine X_iconst (v := 0) C dX4_worth_79 rfl ?_
      refine X_iconst (v := 1) C dX4_worth_80 rfl ?_
      refine X_callVS (ci := 4) (q := (RX4, TX4, 54)) (As := [_, _]) (rest := []) C rfl (LX_S hX (k := 175) rfl) q2303 q2305 qs118 q136 q2306 ⟨rfl, nm_X4_worthOf⟩ rfl dX4_worth_81 (m_X4_worthOf_f (Cx_l C) hX 8 (d := d - 1) (by omega) st 0 1 h) (by omega) (by decide) (Nat.le_of_ble_eq_true rfl) (fun s73 w74 hE75 hP76 => ?_) (fun s79 E77 q78 hE75 hP76 => ?_)
      rotate_left
      · exact False.elim hP76
      obtain ⟨rfl, h⟩ := hP76
      refine X_tln ?_
      refine X_sub [2, 3, 4, 1, 0] (lo2 := [(0, _), (1, _), (2, _), (3, _), (5, _)]) rfl ?_
      exact t_X4_worth_b84 hX hd C hn s73 x1 x2 v37 v39 h
def w_X4_worth (st : St) (p1 : Int32) (p2 : Int32) (Φ : St → Int64 → Prop) : Prop := w_X4_isIn p1.toInt64 0 2 (fun (r1 : Int32) => ((r1 = 0) → w_X4_worth_b19 Φ st) ∧ ((¬ r1 = 0) → w_X4_isPart p2 (fun (r18 : Int32) => ((r18 ≠ 0) → (((sI st 177 35) ≠ 0) → w_X4_begins st (fun (s29 : St) => ((p1 = 1) → w_X4_worth_b56 Φ s29 p1 p2) ∧ ((¬ p1 = 1) → (w_X4_worthOf_f 8) s29 0 0 (fun (s81 : St) => w_X4_worth_b56 Φ s81 p1 p2)))) ∧ (((sI st 177 35) = 0) → w_X4_findsFar st 2 (fun (s89 : St) (r88 : Int64) => Φ s89 r88))) ∧ ((r18 = 0) → w_X4_worth_b19 Φ st))))
theorem e_X4_worth : plainFor yX4_worth = true := plainFor_of_name (by decide +kernel)
theorem m_X4_worth {θ : Th} {l : Launch} (hl0 : l.stackTraces = false) (hX : LX θ) {d : Nat} (hd : 16 ≤ d) (st : St) (p1 : Int32) (p2 : Int32) {Φ : St → Int64 → Prop} (h : w_X4_worth st p1 p2 Φ) : Ct θ l yX4_worth (ws_ yX4_worth cX4_worth 7 (some Jvm.ClassFile.FieldType.long)) d [.ref (ad θ 175), .int p1, .int p2] st (pL Φ, noX) := by
  refine Ct_entry hl0 e_X4_worth (Nat.le_of_ble_eq_true rfl) (fun κ hκ _ C => ?_)
  have hn : ∀ st r, Φ st r → ((pL Φ, noX) : Ph).1 st (some (.long r)) := fun st r q => ⟨r, rfl, q⟩
  change X _ _ _ _ _ [(0, .ref (ad θ 175)), (1, .int p1), (2, .int p2)] _
  unfold w_X4_worth at h
  refine X_iload_n C dX4_worth_0 rfl 1 rfl ?_
  refine X_i2l C dX4_worth_1 ?_
  refine X_lconst (v := 0) C dX4_worth_2 rfl ?_
  refine X_ldc2 C q1934 dX4_worth_3 ?_
  refine X_callS (As := [_, _, _]) (rest := []) C q1936 q1937 q136 q1938 nm_X4_isIn rfl dX4_worth_6 (m_X4_isIn (Cx_l C) hX (d := d - 1) (by omega) st p1.toInt64 0 2 h) (by omega) (by decide) (Nat.le_of_ble_eq_true rfl) (fun s7 w2 hE3 hP4 => ?_) (fun s8 E5 q6 hE3 hP4 => ?_)
  rotate_left
  · exact False.elim hP4
  obtain ⟨r1, rfl, rfl, h⟩ := hP4
  refine X_tls ?_
  refine X_if_eq (tgt := 19) C dX4_worth_9 (by decide) (fun c9 => ?_) (fun c9 => ?_)
  · have h := h.1 c9
    refine X_sub [0] (lo2 := [(0, _)]) rfl ?_
    exact t_X4_worth_b19 hX hd C hn st h
  · have h := h.2 c9
    refine X_iload_n C dX4_worth_12 rfl 2 rfl ?_
    refine X_callS (As := [_]) (rest := []) C q2030 q2031 q136 q2032 nm_X4_isPart rfl dX4_worth_13 (m_X4_isPart (Cx_l C) hX (d := d - 1) (by omega) st p2 h) (by omega) (by decide) (Nat.le_of_ble_eq_true rfl) (fun s24 w19 hE20 hP21 => ?_) (fun s25 E22 q23 hE20 hP21 => ?_)
    rotate_left
    · exact False.elim hP21
    obtain ⟨r18, rfl, rfl, h⟩ := hP21
    refine X_tls ?_
    refine X_if_ne (tgt := 25) C dX4_worth_16 (by decide) (fun c26 => ?_) (fun c26 => ?_)
    · have h := h.1 c26
      refine X_aload_n C dX4_worth_25 rfl 0 rfl (isRV_r _) ?_
      refine X_getF (ci := 4) (j := 1) (q := (RX4, TX4, 54)) C rfl (by decide) q1767 rfl dX4_worth_26 (b := 177) (LX_S hX (k := 175) rfl) (LX_F hX (k := 175) (j := 1) rfl) rfl ?_
      refine X_bipush (v := 35) C dX4_worth_29 rfl ?_
      refine X_ialdS C (LX_S hX (k := 177) rfl) (LX_L hX (k := 177) rfl) (vp_dec rfl) rfl dX4_worth_31 ?_
      refine X_if_ne (tgt := 41) C dX4_worth_32 (by decide) (fun c27 => ?_) (fun c27 => ?_)
      · have h := h.1 c27
        refine X_aload_n C dX4_worth_41 rfl 0 rfl (isRV_r _) ?_
        refine X_callVS (ci := 4) (q := (RX4, TX4, 54)) (As := []) (rest := []) C rfl (LX_S hX (k := 175) rfl) q2038 q2040 qs73 q136 q2041 ⟨rfl, nm_X4_begins⟩ rfl dX4_worth_42 (m_X4_begins (Cx_l C) hX (d := d - 1) (by omega) st h) (by omega) (by decide) (Nat.le_of_ble_eq_true rfl) (fun s29 w30 hE31 hP32 => ?_) (fun s35 E33 q34 hE31 hP32 => ?_)
        rotate_left
        · exact False.elim hP32
        obtain ⟨rfl, h⟩ := hP32
        refine X_tln ?_
        refine X_iload_n C dX4_worth_45 rfl 1 rfl ?_
        refine X_iconst (v := 1) C dX4_worth_46 rfl ?_
        refine X_icmp_eq (tgt := 56) C dX4_worth_47 (by decide) (fun c36 => ?_) (fun c36 => ?_)
        · have h := h.1 c36
          exact t_X4_worth_b56 hX hd C hn s29 p1 p2 h
        · have h := h.2 c36
          refine X_aload_n C dX4_worth_50 rfl 0 rfl (isRV_r _) ?_
          refine X_iconst (v := 0) C dX4_worth_51 rfl ?_
          refine X_iconst (v := 0) C dX4_worth_52 rfl ?_
          refine X_callVS (ci := 4) (q := (RX4, TX4, 54)) (As := [_, _]) (rest := []) C rfl (LX_S hX (k := 175) rfl) q2303 q2305 qs118 q136 q2306 ⟨rfl, nm_X4_worthOf⟩ rfl dX4_worth_53 (m_X4_worthOf_f (Cx_l C) hX 8 (d := d - 1) (by omega) s29 0 0 h) (by omega) (by decide) (Nat.le_of_ble_eq_true rfl) (fun s81 w82 hE83 hP84 => ?_) (fun s87 E85 q86 hE83 hP84 => ?_)
          rotate_left
          · exact False.elim hP84
          obtain ⟨rfl, h⟩ := hP84
          refine X_tln ?_
          exact t_X4_worth_b56 hX hd C hn s81 p1 p2 h
      · have h := h.2 c27
        refine X_aload_n C dX4_worth_35 rfl 0 rfl (isRV_r _) ?_
        refine X_iconst (v := 2) C dX4_worth_36 rfl ?_
        refine X_callVS (ci := 4) (q := (RX4, TX4, 54)) (As := [_]) (rest := []) C rfl (LX_S hX (k := 175) rfl) q2033 q2035 qs72 q136 q2036 ⟨rfl, nm_X4_findsFar⟩ rfl dX4_worth_37 (m_X4_findsFar (Cx_l C) hX (d := d - 1) (by omega) st 2 h) (by omega) (by decide) (Nat.le_of_ble_eq_true rfl) (fun s89 w90 hE91 hP92 => ?_) (fun s95 E93 q94 hE91 hP92 => ?_)
        rotate_left
        · exact False.elim hP92
        obtain ⟨r88, rfl, h⟩ := hP92
        refine X_tls ?_
        exact X_lret C rfl dX4_worth_40 (hn s89 _ h)
    · have h := h.2 c26
      refine X_sub [0] (lo2 := [(0, _)]) rfl ?_
      exact t_X4_worth_b19 hX hd C hn st h

theorem nm_X4_writesNode : yX4_writesNode.cls ≠ "java/lang/invoke/MethodHandle" ∧ yX4_writesNode.cls ≠ "java/lang/invoke/VarHandle" ∧ (parseMethodDescriptor yX4_writesNode.desc).map (fun d => d.parameters.length) = some 1 := by decide +kernel
def w_X4_writesNode_b123 (rec : St → Int32 → (St → Prop) → Prop) (Φ : St → Prop) (K77 : St → Int32 → Int32 → Int32 → Prop) (st : St) (x1 : Int32) (x3 : Int32) (x4 : Int32) : Prop := K77 st x1 x3 (x4 + 1)
theorem t_X4_writesNode_b123 {θ : Th} {κ : Kx} {Ph : Ph} (hX : LX θ) {rec : St → Int32 → (St → Prop) → Prop} {dR : Nat} (hrec : ∀ {d : Nat}, dR ≤ d → ∀ (st : St) (p1 : Int32), ∀ {Φ : St → Prop}, rec st p1 Φ → Ct θ κ.2.1 yX4_writesNode (ws_ yX4_writesNode cX4_writesNode 5 (none : Option Jvm.ClassFile.FieldType)) d [.ref (ad θ 175), .int p1] st (pV Φ, noX)) {d : Nat} (hd : 4 ≤ d) (hdR : dR + 1 ≤ d) (C : Cx θ κ yX4_writesNode cX4_writesNode 5 (none : Option Jvm.ClassFile.FieldType) [] d) {Φ : St → Prop} (hn : ∀ st, Φ st → Ph.1 st none) {K77 : St → Int32 → Int32 → Int32 → Prop} (hK77 : ∀ (st : St) (x1 : Int32) (x3 : Int32) (x4 : Int32), K77 st x1 x3 x4 → X θ κ Ph st 77 [(0, .ref (ad θ 175)), (1, .int x1), (3, .int x3), (4, .int x4)] []) (st : St) (x1 : Int32) (x3 : Int32) (x4 : Int32) (h : w_X4_writesNode_b123 rec Φ K77 st x1 x3 x4) : X θ κ Ph st 123 [(0, .ref (ad θ 175)), (1, .int x1), (3, .int x3), (4, .int x4)] [] := by
  unfold w_X4_writesNode_b123 at h
  refine X_iinc (v := (x4 + 1)) C (j := 3) dX4_writesNode_123 rfl rfl (lo2 := [(4, _), (0, _), (1, _), (3, _)]) (by decide) rfl ?_
  refine X_goto (tgt := 77) C dX4_writesNode_126 (by decide) ?_
  refine X_sub [1, 2, 3, 0] (lo2 := [(0, _), (1, _), (3, _), (4, _)]) rfl ?_
  exact hK77 st x1 x3 (x4 + 1) h
def w_X4_writesNode_b111 (rec : St → Int32 → (St → Prop) → Prop) (Φ : St → Prop) (K77 : St → Int32 → Int32 → Int32 → Prop) (st : St) (x1 : Int32) (x3 : Int32) (x4 : Int32) (z0 : Int32) : Prop := w_X4_puts st z0 (fun (s28 : St) => rec s28 x4 (fun (s36 : St) => w_X4_writesNode_b123 rec Φ K77 s36 x1 (x3 + 1) x4))
theorem t_X4_writesNode_b111 {θ : Th} {κ : Kx} {Ph : Ph} (hX : LX θ) {rec : St → Int32 → (St → Prop) → Prop} {dR : Nat} (hrec : ∀ {d : Nat}, dR ≤ d → ∀ (st : St) (p1 : Int32), ∀ {Φ : St → Prop}, rec st p1 Φ → Ct θ κ.2.1 yX4_writesNode (ws_ yX4_writesNode cX4_writesNode 5 (none : Option Jvm.ClassFile.FieldType)) d [.ref (ad θ 175), .int p1] st (pV Φ, noX)) {d : Nat} (hd : 4 ≤ d) (hdR : dR + 1 ≤ d) (C : Cx θ κ yX4_writesNode cX4_writesNode 5 (none : Option Jvm.ClassFile.FieldType) [] d) {Φ : St → Prop} (hn : ∀ st, Φ st → Ph.1 st none) {K77 : St → Int32 → Int32 → Int32 → Prop} (hK77 : ∀ (st : St) (x1 : Int32) (x3 : Int32) (x4 : Int32), K77 st x1 x3 x4 → X θ κ Ph st 77 [(0, .ref (ad θ 175)), (1, .int x1), (3, .int x3), (4, .int x4)] []) (st : St) (x1 : Int32) (x3 : Int32) (x4 : Int32) (z0 : Int32) (h : w_X4_writesNode_b111 rec Φ K77 st x1 x3 x4 z0) : X θ κ Ph st 111 [(0, .ref (ad θ 175)), (1, .int x1), (3, .int x3), (4, .int x4)] [.int z0, .ref (ad θ 175)] := by
  unfold w_X4_writesNode_b111 at h
  refine X_callVS (ci := 4) (q := (RX4, TX4, 54)) (As := [_]) (rest := []) C rfl (LX_S hX (k := 175) rfl) q2319 q2321 qs121 q136 q2322 ⟨rfl, nm_X4_puts⟩ rfl dX4_writesNode_111 (m_X4_puts (Cx_l C) hX (d := d - 1) (by omega) st z0 h) (by omega) (by decide) (Nat.le_of_ble_eq_true rfl) (fun s28 w29 hE30 hP31 => ?_) (fun s34 E32 q33 hE30 hP31 => ?_)
  rotate_left
  · exact False.elim hP31
  obtain ⟨rfl, h⟩ := hP31
  refine X_tln ?_
  refine X_aload_n C dX4_writesNode_114 rfl 0 rfl (isRV_r _) ?_
  refine X_iload C dX4_writesNode_115 3 rfl ?_
  refine X_callVS (ci := 4) (q := (RX4, TX4, 54)) (As := [_]) (rest := []) C rfl (LX_S hX (k := 175) rfl) q2338 q2340 qs125 q136 q2341 ⟨rfl, nm_X4_writesNode⟩ rfl dX4_writesNode_117 (hrec (d := d - 1) (by omega) s28 x4 h) (by omega) (by decide) (Nat.le_of_ble_eq_true rfl) (fun s36 w37 hE38 hP39 => ?_) (fun s42 E40 q41 hE38 hP39 => ?_)
  rotate_left
  · exact False.elim hP39
  obtain ⟨rfl, h⟩ := hP39
  refine X_tln ?_
  refine X_iinc (v := (x3 + 1)) C (j := 2) dX4_writesNode_120 rfl rfl (lo2 := [(3, _), (0, _), (1, _), (4, _)]) (by decide) rfl ?_
  refine X_sub [1, 2, 0, 3] (lo2 := [(0, _), (1, _), (3, _), (4, _)]) rfl ?_
  exact t_X4_writesNode_b123 hX hrec hd hdR C hn hK77 s36 x1 (x3 + 1) x4 h
def w_X4_writesNode_l77 (rec : St → Int32 → (St → Prop) → Prop) (Φ : St → Prop) (E129 : St → Int32 → Prop) : Nat → St → Int32 → Int32 → Int32 → Prop
  | 0, _, _, _, _ => False
  | n + 1, st, x1, x3, x4 => (((sI st 177 35) ≤ x4) → E129 st x3) ∧ ((¬ (sI st 177 35) ≤ x4) → w_X4_isUnder st x1 x4 (fun (r17 : Int32) => ((r17 = 0) → w_X4_writesNode_b123 rec Φ (w_X4_writesNode_l77 rec Φ E129 n) st x1 x3 x4) ∧ ((¬ r17 = 0) → ((x3 ≠ 0) → w_X4_writesNode_b111 rec Φ (w_X4_writesNode_l77 rec Φ E129 n) st x1 x3 x4 44) ∧ ((x3 = 0) → w_X4_writesNode_b111 rec Φ (w_X4_writesNode_l77 rec Φ E129 n) st x1 x3 x4 91))))
theorem t_X4_writesNode_l77 {θ : Th} {κ : Kx} {Ph : Ph} (hX : LX θ) {rec : St → Int32 → (St → Prop) → Prop} {dR : Nat} (hrec : ∀ {d : Nat}, dR ≤ d → ∀ (st : St) (p1 : Int32), ∀ {Φ : St → Prop}, rec st p1 Φ → Ct θ κ.2.1 yX4_writesNode (ws_ yX4_writesNode cX4_writesNode 5 (none : Option Jvm.ClassFile.FieldType)) d [.ref (ad θ 175), .int p1] st (pV Φ, noX)) {d : Nat} (hd : 4 ≤ d) (hdR : dR + 1 ≤ d) (C : Cx θ κ yX4_writesNode cX4_writesNode 5 (none : Option Jvm.ClassFile.FieldType) [] d) {Φ : St → Prop} (hn : ∀ st, Φ st → Ph.1 st none) {E129 : St → Int32 → Prop} (hE129 : ∀ (st : St) (x3 : Int32), E129 st x3 → X θ κ Ph st 129 [(0, .ref (ad θ 175)), (3, .int x3)] []) : ∀ (n : Nat) (st : St) (x1 : Int32) (x3 : Int32) (x4 : Int32), w_X4_writesNode_l77 rec Φ E129 n st x1 x3 x4 → X θ κ Ph st 77 [(0, .ref (ad θ 175)), (1, .int x1), (3, .int x3), (4, .int x4)] [] := by
  intro n
  induction n with
  | zero => intro st x1 x3 x4 h; exact h.elim
  | succ n hK77 =>
    intro st x1 x3 x4 h
    rw [w_X4_writesNode_l77] at h
    refine X_iload C dX4_writesNode_77 3 rfl ?_
    refine X_aload_n C dX4_writesNode_79 rfl 0 rfl (isRV_r _) ?_
    refine X_getF (ci := 4) (j := 1) (q := (RX4, TX4, 54)) C rfl (by decide) q1767 rfl dX4_writesNode_80 (b := 177) (LX_S hX (k := 175) rfl) (LX_F hX (k := 175) (j := 1) rfl) rfl ?_
    refine X_bipush (v := 35) C dX4_writesNode_83 rfl ?_
    refine X_ialdS C (LX_S hX (k := 177) rfl) (LX_L hX (k := 177) rfl) (vp_dec rfl) rfl dX4_writesNode_85 ?_
    refine X_icmp_ge (tgt := 129) C dX4_writesNode_86 (by decide) (fun c16 => ?_) (fun c16 => ?_)
    · have h := h.1 c16
      refine X_sub [0, 2] (lo2 := [(0, _), (3, _)]) rfl ?_
      exact hE129 st x3 h
    · have h := h.2 c16
      refine X_aload_n C dX4_writesNode_89 rfl 0 rfl (isRV_r _) ?_
      refine X_iload_n C dX4_writesNode_90 rfl 1 rfl ?_
      refine X_iload C dX4_writesNode_91 3 rfl ?_
      refine X_callVS (ci := 4) (q := (RX4, TX4, 54)) (As := [_, _]) (rest := []) C rfl (LX_S hX (k := 175) rfl) q2291 q2293 qs116 q136 q2294 ⟨rfl, nm_X4_isUnder⟩ rfl dX4_writesNode_93 (m_X4_isUnder (Cx_l C) hX (d := d - 1) (by omega) st x1 x4 h) (by omega) (by decide) (Nat.le_of_ble_eq_true rfl) (fun s23 w18 hE19 hP20 => ?_) (fun s24 E21 q22 hE19 hP20 => ?_)
      rotate_left
      · exact False.elim hP20
      obtain ⟨r17, rfl, rfl, h⟩ := hP20
      refine X_tls ?_
      refine X_if_eq (tgt := 123) C dX4_writesNode_96 (by decide) (fun c25 => ?_) (fun c25 => ?_)
      · have h := h.1 c25
        exact t_X4_writesNode_b123 hX hrec hd hdR C hn hK77 st x1 x3 x4 h
      · have h := h.2 c25
        refine X_aload_n C dX4_writesNode_99 rfl 0 rfl (isRV_r _) ?_
        refine X_iload_n C dX4_writesNode_100 rfl 2 rfl ?_
        refine X_if_ne (tgt := 109) C dX4_writesNode_101 (by decide) (fun c26 => ?_) (fun c26 => ?_)
        · have h := h.1 c26
          refine X_bipush (v := 44) C dX4_writesNode_109 rfl ?_
          exact t_X4_writesNode_b111 hX hrec hd hdR C hn hK77 st x1 x3 x4 44 h
        · have h := h.2 c26
          refine X_bipush (v := 91) C dX4_writesNode_104 rfl ?_
          refine X_goto (tgt := 111) C dX4_writesNode_106 (by decide) ?_
          exact t_X4_writesNode_b111 hX hrec hd hdR C hn hK77 st x1 x3 x4 91 h
def w_X4_writesNode_b129 (rec : St → Int32 → (St → Prop) → Prop) (Φ : St → Prop) (st : St) (x3 : Int32) : Prop := ((x3 ≤ 0) → Φ st) ∧ ((¬ x3 ≤ 0) → w_X4_puts st 93 (fun (s46 : St) => Φ s46))
theorem t_X4_writesNode_b129 {θ : Th} {κ : Kx} {Ph : Ph} (hX : LX θ) {rec : St → Int32 → (St → Prop) → Prop} {dR : Nat} (hrec : ∀ {d : Nat}, dR ≤ d → ∀ (st : St) (p1 : Int32), ∀ {Φ : St → Prop}, rec st p1 Φ → Ct θ κ.2.1 yX4_writesNode (ws_ yX4_writesNode cX4_writesNode 5 (none : Option Jvm.ClassFile.FieldType)) d [.ref (ad θ 175), .int p1] st (pV Φ, noX)) {d : Nat} (hd : 4 ≤ d) (hdR : dR + 1 ≤ d) (C : Cx θ κ yX4_writesNode cX4_writesNode 5 (none : Option Jvm.ClassFile.FieldType) [] d) {Φ : St → Prop} (hn : ∀ st, Φ st → Ph.1 st none) (st : St) (x3 : Int32) (h : w_X4_writesNode_b129 rec Φ st x3) : X θ κ Ph st 129 [(0, .ref (ad θ 175)), (3, .int x3)] [] := by
  unfold w_X4_writesNode_b129 at h
  refine X_iload_n C dX4_writesNode_129 rfl 1 rfl ?_
  refine X_if_le (tgt := 139) C dX4_writesNode_130 (by decide) (fun c44 => ?_) (fun c44 => ?_)
  · have h := h.1 c44
    exact X_vret C rfl dX4_writesNode_139 (hn st h)
  · have h := h.2 c44
    refine X_aload_n C dX4_writesNode_133 rfl 0 rfl (isRV_r _) ?_
    refine X_bipush (v := 93) C dX4_writesNode_134 rfl ?_
    refine X_callVS (ci := 4) (q := (RX4, TX4, 54)) (As := [_]) (rest := []) C rfl (LX_S hX (k := 175) rfl) q2319 q2321 qs121 q136 q2322 ⟨rfl, nm_X4_puts⟩ rfl dX4_writesNode_136 (m_X4_puts (Cx_l C) hX (d := d - 1) (by omega) st 93 h) (by omega) (by decide) (Nat.le_of_ble_eq_true rfl) (fun s46 w47 hE48 hP49 => ?_) (fun s52 E50 q51 hE48 hP49 => ?_)
    rotate_left
    · exact False.elim hP49
    obtain ⟨rfl, h⟩ := hP49
    refine X_tln ?_
    exact X_vret C rfl dX4_writesNode_139 (hn s46 h)
def w_X4_writesNode_b70 (rec : St → Int32 → (St → Prop) → Prop) (Φ : St → Prop) (st : St) (x1 : Int32) : Prop := ∀ v14 : Int32, v14 = (x1 + 1) → w_X4_writesNode_l77 rec Φ (fun (s43 : St) (x3 : Int32) => w_X4_writesNode_b129 rec Φ s43 x3) gFU st x1 0 v14
theorem t_X4_writesNode_b70 {θ : Th} {κ : Kx} {Ph : Ph} (hX : LX θ) {rec : St → Int32 → (St → Prop) → Prop} {dR : Nat} (hrec : ∀ {d : Nat}, dR ≤ d → ∀ (st : St) (p1 : Int32), ∀ {Φ : St → Prop}, rec st p1 Φ → Ct θ κ.2.1 yX4_writesNode (ws_ yX4_writesNode cX4_writesNode 5 (none : Option Jvm.ClassFile.FieldType)) d [.ref (ad θ 175), .int p1] st (pV Φ, noX)) {d : Nat} (hd : 4 ≤ d) (hdR : dR + 1 ≤ d) (C : Cx θ κ yX4_writesNode cX4_writesNode 5 (none : Option Jvm.ClassFile.FieldType) [] d) {Φ : St → Prop} (hn : ∀ st, Φ st → Ph.1 st none) (st : St) (x1 : Int32) (h : w_X4_writesNode_b70 rec Φ st x1) : X θ κ Ph st 70 [(0, .ref (ad θ 175)), (1, .int x1)] [] := by
  unfold w_X4_writesNode_b70 at h
  refine X_iconst (v := 0) C dX4_writesNode_70 rfl ?_
  refine X_istore_n C dX4_writesNode_71 rfl (lo2 := [(3, _), (0, _), (1, _)]) (by decide) rfl ?_
  refine X_iload_n C dX4_writesNode_72 rfl 2 rfl ?_
  refine X_iconst (v := 1) C dX4_writesNode_73 rfl ?_
  refine X_iadd C dX4_writesNode_74 ?_
  refine X_topi (fun v14 e15 => ?_)
  have h := h v14 e15
  refine X_istore C dX4_writesNode_75 (lo2 := [(4, _), (3, _), (0, _), (1, _)]) (by decide) rfl ?_
  refine X_sub [2, 3, 1, 0] (lo2 := [(0, _), (1, _), (3, _), (4, _)]) rfl ?_
  refine t_X4_writesNode_l77 hX hrec hd hdR C hn ?_ gFU st x1 0 v14 h
  · intro s43 x3 h
    exact t_X4_writesNode_b129 hX hrec hd hdR C hn s43 x3 h
def w_X4_writesNode_l41 (rec : St → Int32 → (St → Prop) → Prop) (Φ : St → Prop) (E64 : St → Int32 → Int32 → Prop) : Nat → St → Int32 → Int32 → Nat → Int32 → Prop
  | 0, _, _, _, _, _ => False
  | n + 1, st, x1, x2, x3, x4 => ((6 ≤ x4) → E64 st x1 x2) ∧ ((¬ 6 ≤ x4) → w_J6_charAt st x3 x4 (fun (r56 : Int32) => w_X4_puts st r56 (fun (s65 : St) => w_X4_writesNode_l41 rec Φ E64 n s65 x1 x2 x3 (x4 + 1))))
theorem t_X4_writesNode_l41 {θ : Th} {κ : Kx} {Ph : Ph} (hX : LX θ) {rec : St → Int32 → (St → Prop) → Prop} {dR : Nat} (hrec : ∀ {d : Nat}, dR ≤ d → ∀ (st : St) (p1 : Int32), ∀ {Φ : St → Prop}, rec st p1 Φ → Ct θ κ.2.1 yX4_writesNode (ws_ yX4_writesNode cX4_writesNode 5 (none : Option Jvm.ClassFile.FieldType)) d [.ref (ad θ 175), .int p1] st (pV Φ, noX)) {d : Nat} (hd : 4 ≤ d) (hdR : dR + 1 ≤ d) (C : Cx θ κ yX4_writesNode cX4_writesNode 5 (none : Option Jvm.ClassFile.FieldType) [] d) {Φ : St → Prop} (hn : ∀ st, Φ st → Ph.1 st none) {E64 : St → Int32 → Int32 → Prop} (hE64 : ∀ (st : St) (x1 : Int32) (x2 : Int32), E64 st x1 x2 → X θ κ Ph st 64 [(0, .ref (ad θ 175)), (1, .int x1), (2, .int x2)] []) : ∀ (n : Nat) (st : St) (x1 : Int32) (x2 : Int32) (x3 : Nat) (x4 : Int32), sh st x3 = 10 → w_X4_writesNode_l41 rec Φ E64 n st x1 x2 x3 x4 → X θ κ Ph st 41 [(0, .ref (ad θ 175)), (1, .int x1), (2, .int x2), (3, .ref (ad θ x3)), (4, .int x4)] [] := by
  intro n
  induction n with
  | zero => intro st x1 x2 x3 x4 hs_x3 h; exact h.elim
  | succ n hK41 =>
    intro st x1 x2 x3 x4 hs_x3 h
    rw [w_X4_writesNode_l41] at h
    refine X_iload C dX4_writesNode_41 4 rfl ?_
    refine X_bipush (v := 6) C dX4_writesNode_43 rfl ?_
    refine X_icmp_ge (tgt := 64) C dX4_writesNode_45 (by decide) (fun c55 => ?_) (fun c55 => ?_)
    · have h := h.1 c55
      refine X_sub [0, 1, 2] (lo2 := [(0, _), (1, _), (2, _)]) rfl ?_
      exact hE64 st x1 x2 h
    · have h := h.2 c55
      refine X_aload_n C dX4_writesNode_48 rfl 0 rfl (isRV_r _) ?_
      refine X_aload_n C dX4_writesNode_49 rfl 3 rfl (isRV_r _) ?_
      refine X_iload C dX4_writesNode_50 4 rfl ?_
      refine X_callV (ci := 9) (q := (RJ6, TJ6, 4)) (As := [_]) (rest := [_]) C rfl hs_x3 q2251 q1613 q2441 q144 q1615 ⟨rfl, nm_J6_charAt⟩ rfl dX4_writesNode_52 (m_J6_charAt (Cx_l C) hX (d := d - 1) (by omega) st x3 x4 hs_x3 h) (by omega) (by decide) (Nat.le_of_ble_eq_true rfl) (fun s62 w57 hE58 hP59 => ?_) (fun s63 E60 q61 hE58 hP59 => ?_)
      rotate_left
      · exact False.elim hP59
      obtain ⟨r56, rfl, rfl, h⟩ := hP59
      refine X_tls ?_
      refine X_callVS (ci := 4) (q := (RX4, TX4, 54)) (As := [_]) (rest := []) C rfl (LX_S hX (k := 175) rfl) q2319 q2321 qs121 q136 q2322 ⟨rfl, nm_X4_puts⟩ rfl dX4_writesNode_55 (m_X4_puts (Cx_l C) hX (d := d - 1) (by omega) st r56 h) (by omega) (by decide) (Nat.le_of_ble_eq_true rfl) (fun s65 w66 hE67 hP68 => ?_) (fun s71 E69 q70 hE67 hP68 => ?_)
      rotate_left
      · exact False.elim hP68
      obtain ⟨rfl, h⟩ := hP68
      refine X_tln ?_
      have hs_x3 := Ext_sh hE67 hs_x3 (by decide)
      refine X_iinc (v := (x4 + 1)) C (j := 4) dX4_writesNode_58 rfl rfl (lo2 := [(4, _), (0, _), (1, _), (2, _), (3, _)]) (by decide) rfl ?_
      refine X_goto (tgt := 41) C dX4_writesNode_61 (by decide) ?_
      refine X_sub [1, 2, 3, 4, 0] (lo2 := [(0, _), (1, _), (2, _), (3, _), (4, _)]) rfl ?_
      exact hK41 s65 x1 x2 x3 (x4 + 1) hs_x3 h
def w_X4_writesNode_b64 (rec : St → Int32 → (St → Prop) → Prop) (Φ : St → Prop) (st : St) (x1 : Int32) (x2 : Int32) : Prop := w_X4_writes st x2.toInt64 (fun (s74 : St) => w_X4_writesNode_b70 rec Φ s74 x1)
theorem t_X4_writesNode_b64 {θ : Th} {κ : Kx} {Ph : Ph} (hX : LX θ) {rec : St → Int32 → (St → Prop) → Prop} {dR : Nat} (hrec : ∀ {d : Nat}, dR ≤ d → ∀ (st : St) (p1 : Int32), ∀ {Φ : St → Prop}, rec st p1 Φ → Ct θ κ.2.1 yX4_writesNode (ws_ yX4_writesNode cX4_writesNode 5 (none : Option Jvm.ClassFile.FieldType)) d [.ref (ad θ 175), .int p1] st (pV Φ, noX)) {d : Nat} (hd : 4 ≤ d) (hdR : dR + 1 ≤ d) (C : Cx θ κ yX4_writesNode cX4_writesNode 5 (none : Option Jvm.ClassFile.FieldType) [] d) {Φ : St → Prop} (hn : ∀ st, Φ st → Ph.1 st none) (st : St) (x1 : Int32) (x2 : Int32) (h : w_X4_writesNode_b64 rec Φ st x1 x2) : X θ κ Ph st 64 [(0, .ref (ad θ 175)), (1, .int x1), (2, .int x2)] [] := by
  unfold w_X4_writesNode_b64 at h
  refine X_aload_n C dX4_writesNode_64 rfl 0 rfl (isRV_r _) ?_
  refine X_iload_n C dX4_writesNode_65 rfl 2 rfl ?_
  refine X_i2l C dX4_writesNode_66 ?_
  refine X_callVS (ci := 4) (q := (RX4, TX4, 54)) (As := [_]) (rest := []) C rfl (LX_S hX (k := 175) rfl) q2323 q2325 qs122 q136 q2326 ⟨rfl, nm_X4_writes⟩ rfl dX4_writesNode_67 (m_X4_writes (Cx_l C) hX (d := d - 1) (by omega) st x2.toInt64 h) (by omega) (by decide) (Nat.le_of_ble_eq_true rfl) (fun s74 w75 hE76 hP77 => ?_) (fun s80 E78 q79 hE76 hP77 => ?_)
  rotate_left
  · exact False.elim hP77
  obtain ⟨rfl, h⟩ := hP77
  refine X_tln ?_
  refine X_sub [0, 1] (lo2 := [(0, _), (1, _)]) rfl ?_
  exact t_X4_writesNode_b70 hX hrec hd hdR C hn s74 x1 h
def w_X4_writesNode (rec : St → Int32 → (St → Prop) → Prop) (st : St) (p1 : Int32) (Φ : St → Prop) : Prop := vp_in (36 + (3 * p1)) 97 ∧ w_X4_writes st (sI st 177 (36 + (3 * p1)).toNatClampNeg).toInt64 (fun (s3 : St) => vp_in ((36 + (3 * p1)) + 1) 97 ∧ ∀ v11 : Int32, v11 = (sI s3 177 ((36 + (3 * p1)) + 1).toNatClampNeg) → ((v11 ≤ 0) → w_X4_writesNode_b70 rec Φ s3 p1) ∧ ((¬ v11 ≤ 0) → w_X4_writesNode_l41 rec Φ (fun (s72 : St) (x1 : Int32) (x2 : Int32) => w_X4_writesNode_b64 rec Φ s72 x1 x2) gFU s3 p1 v11 (gBIG + 2 * 13) 0))
theorem e_X4_writesNode : plainFor yX4_writesNode = true := plainFor_of_name (by decide +kernel)
theorem m_X4_writesNode {θ : Th} {l : Launch} (hl0 : l.stackTraces = false) (hX : LX θ) {rec : St → Int32 → (St → Prop) → Prop} {dR : Nat} (hrec : ∀ {d : Nat}, dR ≤ d → ∀ (st : St) (p1 : Int32), ∀ {Φ : St → Prop}, rec st p1 Φ → Ct θ l yX4_writesNode (ws_ yX4_writesNode cX4_writesNode 5 (none : Option Jvm.ClassFile.FieldType)) d [.ref (ad θ 175), .int p1] st (pV Φ, noX)) {d : Nat} (hd : 4 ≤ d) (hdR : dR + 1 ≤ d) (st : St) (p1 : Int32) {Φ : St → Prop} (h : w_X4_writesNode rec st p1 Φ) : Ct θ l yX4_writesNode (ws_ yX4_writesNode cX4_writesNode 5 (none : Option Jvm.ClassFile.FieldType)) d [.ref (ad θ 175), .int p1] st (pV Φ, noX) := by
  refine Ct_entry hl0 e_X4_writesNode (Nat.le_of_ble_eq_true rfl) (fun κ hκ _ C => ?_)
  subst hκ
  have hn : ∀ st, Φ st → ((pV Φ, noX) : Ph).1 st none := fun st q => ⟨rfl, q⟩
  change X _ _ _ _ _ [(0, .ref (ad θ 175)), (1, .int p1)] _
  unfold w_X4_writesNode at h
  refine X_aload_n C dX4_writesNode_0 rfl 0 rfl (isRV_r _) ?_
  refine X_aload_n C dX4_writesNode_1 rfl 0 rfl (isRV_r _) ?_
  refine X_getF (ci := 4) (j := 1) (q := (RX4, TX4, 54)) C rfl (by decide) q1767 rfl dX4_writesNode_2 (b := 177) (LX_S hX (k := 175) rfl) (LX_F hX (k := 175) (j := 1) rfl) rfl ?_
  refine X_bipush (v := 36) C dX4_writesNode_5 rfl ?_
  refine X_iconst (v := 3) C dX4_writesNode_7 rfl ?_
  refine X_iload_n C dX4_writesNode_8 rfl 1 rfl ?_
  refine X_imul C dX4_writesNode_9 ?_
  refine X_iadd C dX4_writesNode_10 ?_
  have g1 := h.1
  have h := h.2
  refine X_ialdS C (LX_S hX (k := 177) rfl) (LX_L hX (k := 177) rfl) g1 rfl dX4_writesNode_11 ?_
  refine X_i2l C dX4_writesNode_12 ?_
  refine X_callVS (ci := 4) (q := (RX4, TX4, 54)) (As := [_]) (rest := []) C rfl (LX_S hX (k := 175) rfl) q2323 q2325 qs122 q136 q2326 ⟨rfl, nm_X4_writes⟩ rfl dX4_writesNode_13 (m_X4_writes (Cx_l C) hX (d := d - 1) (by omega) st (sI st 177 (36 + (3 * p1)).toNatClampNeg).toInt64 h) (by omega) (by decide) (Nat.le_of_ble_eq_true rfl) (fun s3 w4 hE5 hP6 => ?_) (fun s9 E7 q8 hE5 hP6 => ?_)
  rotate_left
  · exact False.elim hP6
  obtain ⟨rfl, h⟩ := hP6
  refine X_tln ?_
  refine X_aload_n C dX4_writesNode_16 rfl 0 rfl (isRV_r _) ?_
  refine X_getF (ci := 4) (j := 1) (q := (RX4, TX4, 54)) C rfl (by decide) q1767 rfl dX4_writesNode_17 (b := 177) (LX_S hX (k := 175) rfl) (LX_F hX (k := 175) (j := 1) rfl) rfl ?_
  refine X_bipush (v := 36) C dX4_writesNode_20 rfl ?_
  refine X_iconst (v := 3) C dX4_writesNode_22 rfl ?_
  refine X_iload_n C dX4_writesNode_23 rfl 1 rfl ?_
  refine X_imul C dX4_writesNode_24 ?_
  refine X_iadd C dX4_writesNode_25 ?_
  refine X_iconst (v := 1) C dX4_writesNode_26 rfl ?_
  refine X_iadd C dX4_writesNode_27 ?_
  have g10 := h.1
  have h := h.2
  refine X_ialdS C (LX_S hX (k := 177) rfl) (LX_L hX (k := 177) rfl) g10 rfl dX4_writesNode_28 ?_
  refine X_topi (fun v11 e12 => ?_)
  have h := h v11 e12
  refine X_istore_n C dX4_writesNode_29 rfl (lo2 := [(2, _), (0, _), (1, _)]) (by decide) rfl ?_
  refine X_iload_n C dX4_writesNode_30 rfl 0 rfl ?_
  refine X_if_le (tgt := 70) C dX4_writesNode_31 (by decide) (fun c13 => ?_) (fun c13 => ?_)
  · have h := h.1 c13
    refine X_sub [1, 2] (lo2 := [(0, _), (1, _)]) rfl ?_
    exact t_X4_writesNode_b70 hX hrec hd hdR C hn s3 p1 h
  · have h := h.2 c13
    refine X_ldcws (tx := " stay ") (i := 13) C (by decide +kernel) dX4_writesNode_34 ?_
    refine X_con (fun hc53 => ?_)
    have hs54 : sh s3 (gBIG + 2 * 13) = 10 := con_str hc53 (by decide)
    refine X_astore_n C dX4_writesNode_37 rfl (isRV_r _) (lo2 := [(3, _), (2, _), (0, _), (1, _)]) (by decide) rfl ?_
    refine X_iconst (v := 0) C dX4_writesNode_38 rfl ?_
    refine X_istore C dX4_writesNode_39 (lo2 := [(4, _), (3, _), (2, _), (0, _), (1, _)]) (by decide) rfl ?_
    refine X_sub [3, 4, 2, 1, 0] (lo2 := [(0, _), (1, _), (2, _), (3, _), (4, _)]) rfl ?_
    refine t_X4_writesNode_l41 hX hrec hd hdR C hn ?_ gFU s3 p1 v11 (gBIG + 2 * 13) 0 hs54 h
    · intro s72 x1 x2 h
      exact t_X4_writesNode_b64 hX hrec hd hdR C hn s72 x1 x2 h

def w_X4_writesNode_f : Nat → St → Int32 → (St → Prop) → Prop
  | 0, _, _, _ => False
  | n + 1, st, p1, Φ => w_X4_writesNode (w_X4_writesNode_f n) st p1 Φ
theorem m_X4_writesNode_f {θ : Th} {l : Launch} (hl0 : l.stackTraces = false) (hX : LX θ) : ∀ (n : Nat) {d : Nat}, 4 + 1 * n ≤ d → ∀ (st : St) (p1 : Int32), ∀ {Φ : St → Prop}, w_X4_writesNode_f n st p1 Φ → Ct θ l yX4_writesNode (ws_ yX4_writesNode cX4_writesNode 5 (none : Option Jvm.ClassFile.FieldType)) d [.ref (ad θ 175), .int p1] st (pV Φ, noX) := by
  intro n
  induction n with
  | zero => intro d hd st p1 Φ h; exact h.elim
  | succ n ih =>
    intro d hd st p1 Φ h
    exact m_X4_writesNode hl0 hX (dR := 4 + 1 * n) ih (by omega) (by omega) st p1 h

theorem nm_X4_line : yX4_line.cls ≠ "java/lang/invoke/MethodHandle" ∧ yX4_line.cls ≠ "java/lang/invoke/VarHandle" ∧ (parseMethodDescriptor yX4_line.desc).map (fun d => d.parameters.length) = some 2 := by decide +kernel
def w_X4_line_b48 (Φ : St → Int32 → Prop) (st : St) : Prop := w_X4_finds st 1 (fun (s13 : St) (r12 : Int32) => Φ s13 r12)
theorem t_X4_line_b48 {θ : Th} {κ : Kx} {Ph : Ph} (hX : LX θ) {d : Nat} (hd : 13 ≤ d) (C : Cx θ κ yX4_line cX4_line 5 (some Jvm.ClassFile.FieldType.int) [] d) {Φ : St → Int32 → Prop} (hn : ∀ st r, Φ st r → Ph.1 st (some (.int r))) (st : St) (h : w_X4_line_b48 Φ st) : X θ κ Ph st 48 [(0, .ref (ad θ 175))] [] := by
  unfold w_X4_line_b48 at h
  refine X_aload_n C dX4_line_48 rfl 0 rfl (isRV_r _) ?_
  refine X_iconst (v := 1) C dX4_line_49 rfl ?_
  refine X_callVS (ci := 4) (q := (RX4, TX4, 54)) (As := [_]) (rest := []) C rfl (LX_S hX (k := 175) rfl) q1939 q1941 qs63 q136 q1942 ⟨rfl, nm_X4_finds⟩ rfl dX4_line_50 (m_X4_finds (Cx_l C) hX (d := d - 1) (by omega) st 1 h) (by omega) (by decide) (Nat.le_of_ble_eq_true rfl) (fun s13 w14 hE15 hP16 => ?_) (fun s19 E17 q18 hE15 hP16 => ?_)
  rotate_left
  · exact False.elim hP16
  obtain ⟨r12, rfl, h⟩ := hP16
  refine X_tls ?_
  exact X_iret C rfl dX4_line_53 (hn s13 _ h)
def w_X4_line_l144 (Φ : St → Int32 → Prop) (E173 : St → Prop) : Nat → St → Int32 → Prop
  | 0, _, _ => False
  | n + 1, st, x4 => (((sI st 175 14) ≤ x4) → E173 st) ∧ ((¬ (sI st 175 14) ≤ x4) → vp_in x4 600 ∧ ∀ s46, s46 = putI st 183 (x4.toNatClampNeg) (sI st 184 x4.toNatClampNeg) → w_X4_line_l144 Φ E173 n s46 (x4 + 1))
theorem t_X4_line_l144 {θ : Th} {κ : Kx} {Ph : Ph} (hX : LX θ) {d : Nat} (hd : 13 ≤ d) (C : Cx θ κ yX4_line cX4_line 5 (some Jvm.ClassFile.FieldType.int) [] d) {Φ : St → Int32 → Prop} (hn : ∀ st r, Φ st r → Ph.1 st (some (.int r))) {E173 : St → Prop} (hE173 : ∀ (st : St), E173 st → X θ κ Ph st 173 [(0, .ref (ad θ 175))] []) : ∀ (n : Nat) (st : St) (x4 : Int32), w_X4_line_l144 Φ E173 n st x4 → X θ κ Ph st 144 [(0, .ref (ad θ 175)), (4, .int x4)] [] := by
  intro n
  induction n with
  | zero => intro st x4 h; exact h.elim
  | succ n hK144 =>
    intro st x4 h
    rw [w_X4_line_l144] at h
    refine X_iload C dX4_line_144 1 rfl ?_
    refine X_aload_n C dX4_line_146 rfl 0 rfl (isRV_r _) ?_
    refine X_getS (ci := 4) (j := 14) (q := (RX4, TX4, 54)) C rfl (by decide) q1780 rfl dX4_line_147 (LX_S hX (k := 175) rfl) (v := .int (sI st 175 14)) rfl ?_
    refine X_icmp_ge (tgt := 173) C dX4_line_150 (by decide) (fun c44 => ?_) (fun c44 => ?_)
    · have h := h.1 c44
      refine X_sub [0] (lo2 := [(0, _)]) rfl ?_
      exact hE173 st h
    · have h := h.2 c44
      refine X_aload_n C dX4_line_153 rfl 0 rfl (isRV_r _) ?_
      refine X_getF (ci := 4) (j := 11) (q := (RX4, TX4, 54)) C rfl (by decide) q1777 rfl dX4_line_154 (b := 183) (LX_S hX (k := 175) rfl) (LX_F hX (k := 175) (j := 11) rfl) rfl ?_
      refine X_iload C dX4_line_157 1 rfl ?_
      refine X_aload_n C dX4_line_159 rfl 0 rfl (isRV_r _) ?_
      refine X_getF (ci := 4) (j := 12) (q := (RX4, TX4, 54)) C rfl (by decide) q1778 rfl dX4_line_160 (b := 184) (LX_S hX (k := 175) rfl) (LX_F hX (k := 175) (j := 12) rfl) rfl ?_
      refine X_iload C dX4_line_163 1 rfl ?_
      have g45 := h.1
      have h := h.2
      refine X_ialdS C (LX_S hX (k := 184) rfl) (LX_L hX (k := 184) rfl) g45 rfl dX4_line_165 ?_
      refine X_iastS C (LX_S hX (k := 183) rfl) (LX_L hX (k := 183) rfl) g45 rfl dX4_line_166 ?_
      refine X_nm (fun s46 e47 => ?_)
      have h := h s46 e47
      refine X_iinc (v := (x4 + 1)) C (j := 1) dX4_line_167 rfl rfl (lo2 := [(4, _), (0, _)]) (by decide) rfl ?_
      refine X_goto (tgt := 144) C dX4_line_170 (by decide) ?_
      refine X_sub [1, 0] (lo2 := [(0, _), (4, _)]) rfl ?_
      exact hK144 s46 (x4 + 1) h
def w_X4_line_b173 (Φ : St → Int32 → Prop) (st : St) : Prop := ∀ s49, s49 = putI st 175 13 (sI st 175 14) → Φ s49 (sI s49 175 13)
theorem t_X4_line_b173 {θ : Th} {κ : Kx} {Ph : Ph} (hX : LX θ) {d : Nat} (hd : 13 ≤ d) (C : Cx θ κ yX4_line cX4_line 5 (some Jvm.ClassFile.FieldType.int) [] d) {Φ : St → Int32 → Prop} (hn : ∀ st r, Φ st r → Ph.1 st (some (.int r))) (st : St) (h : w_X4_line_b173 Φ st) : X θ κ Ph st 173 [(0, .ref (ad θ 175))] [] := by
  unfold w_X4_line_b173 at h
  refine X_aload_n C dX4_line_173 rfl 0 rfl (isRV_r _) ?_
  refine X_aload_n C dX4_line_174 rfl 0 rfl (isRV_r _) ?_
  refine X_getS (ci := 4) (j := 14) (q := (RX4, TX4, 54)) C rfl (by decide) q1780 rfl dX4_line_175 (LX_S hX (k := 175) rfl) (v := .int (sI st 175 14)) rfl ?_
  refine X_putSI (ci := 4) (j := 13) (q := (RX4, TX4, 54)) C rfl (by decide) q1779 rfl rfl dX4_line_178 (LX_S hX (k := 175) rfl) rfl rfl rfl ?_
  refine X_nm (fun s49 e50 => ?_)
  have h := h s49 e50
  refine X_aload_n C dX4_line_181 rfl 0 rfl (isRV_r _) ?_
  refine X_getS (ci := 4) (j := 13) (q := (RX4, TX4, 54)) C rfl (by decide) q1779 rfl dX4_line_182 (LX_S hX (k := 175) rfl) (v := .int (sI s49 175 13)) rfl ?_
  exact X_iret C rfl dX4_line_185 (hn s49 _ h)
def w_X4_line_b127 (Φ : St → Int32 → Prop) (st : St) : Prop := (((sI st 175 20) = 0) → w_X4_line_l144 Φ (fun (s48 : St) => w_X4_line_b173 Φ s48) gFU st 0) ∧ ((¬ (sI st 175 20) = 0) → w_X4_finds st 6 (fun (s52 : St) (r51 : Int32) => Φ s52 r51))
theorem t_X4_line_b127 {θ : Th} {κ : Kx} {Ph : Ph} (hX : LX θ) {d : Nat} (hd : 13 ≤ d) (C : Cx θ κ yX4_line cX4_line 5 (some Jvm.ClassFile.FieldType.int) [] d) {Φ : St → Int32 → Prop} (hn : ∀ st r, Φ st r → Ph.1 st (some (.int r))) (st : St) (h : w_X4_line_b127 Φ st) : X θ κ Ph st 127 [(0, .ref (ad θ 175))] [] := by
  unfold w_X4_line_b127 at h
  refine X_aload_n C dX4_line_127 rfl 0 rfl (isRV_r _) ?_
  refine X_getS (ci := 4) (j := 20) (q := (RX4, TX4, 54)) C rfl (by decide) q1786 rfl dX4_line_128 (LX_S hX (k := 175) rfl) (v := .int (sI st 175 20)) rfl ?_
  refine X_if_eq (tgt := 141) C dX4_line_131 (by decide) (fun c43 => ?_) (fun c43 => ?_)
  · have h := h.1 c43
    refine X_iconst (v := 0) C dX4_line_141 rfl ?_
    refine X_istore C dX4_line_142 (lo2 := [(4, _), (0, _)]) (by decide) rfl ?_
    refine X_sub [1, 0] (lo2 := [(0, _), (4, _)]) rfl ?_
    refine t_X4_line_l144 hX hd C hn ?_ gFU st 0 h
    · intro s48 h
      exact t_X4_line_b173 hX hd C hn s48 h
  · have h := h.2 c43
    refine X_aload_n C dX4_line_134 rfl 0 rfl (isRV_r _) ?_
    refine X_bipush (v := 6) C dX4_line_135 rfl ?_
    refine X_callVS (ci := 4) (q := (RX4, TX4, 54)) (As := [_]) (rest := []) C rfl (LX_S hX (k := 175) rfl) q1939 q1941 qs63 q136 q1942 ⟨rfl, nm_X4_finds⟩ rfl dX4_line_137 (m_X4_finds (Cx_l C) hX (d := d - 1) (by omega) st 6 h) (by omega) (by decide) (Nat.le_of_ble_eq_true rfl) (fun s52 w53 hE54 hP55 => ?_) (fun s58 E56 q57 hE54 hP55 => ?_)
    rotate_left
    · exact False.elim hP55
    obtain ⟨r51, rfl, h⟩ := hP55
    refine X_tls ?_
    exact X_iret C rfl dX4_line_140 (hn s52 _ h)
def w_X4_line_b75 (Φ : St → Int32 → Prop) (st : St) (x1 : Int32) (x2 : Int32) : Prop := w_X4_begins st (fun (s23 : St) => ∀ s30, s30 = putI s23 175 14 0 → ((x1 ≠ 0) → ((x1 ≠ 1) → ((x1 ≠ 2) → w_X4_writesBest s30 x2 (fun (s36 : St) => w_X4_line_b127 Φ s36)) ∧ ((x1 = 2) → (w_X4_writesNode_f 8) s30 0 (fun (s60 : St) => w_X4_line_b127 Φ s60))) ∧ ((x1 = 1) → w_X4_writesGame s30 x2 (fun (s68 : St) => w_X4_line_b127 Φ s68))) ∧ ((x1 = 0) → w_X4_writesPoint s30 x2 (fun (s76 : St) => w_X4_line_b127 Φ s76)))
theorem t_X4_line_b75 {θ : Th} {κ : Kx} {Ph : Ph} (hX : LX θ) {d : Nat} (hd : 13 ≤ d) (C : Cx θ κ yX4_line cX4_line 5 (some Jvm.ClassFile.FieldType.int) [] d) {Φ : St → Int32 → Prop} (hn : ∀ st r, Φ st r → Ph.1 st (some (.int r))) (st : St) (x1 : Int32) (x2 : Int32) (h : w_X4_line_b75 Φ st x1 x2) : X θ κ Ph st 75 [(0, .ref (ad θ 175)), (1, .int x1), (2, .int x2)] [] := by
  unfold w_X4_line_b75 at h
  refine X_aload_n C dX4_line_75 rfl 0 rfl (isRV_r _) ?_
  refine X_callVS (ci := 4) (q := (RX4, TX4, 54)) (As := []) (rest := []) C rfl (LX_S hX (k := 175) rfl) q2038 q2040 qs73 q136 q2041 ⟨rfl, nm_X4_begins⟩ rfl dX4_line_76 (m_X4_begins (Cx_l C) hX (d := d - 1) (by omega) st h) (by omega) (by decide) (Nat.le_of_ble_eq_true rfl) (fun s23 w24 hE25 hP26 => ?_) (fun s29 E27 q28 hE25 hP26 => ?_)
  rotate_left
  · exact False.elim hP26
  obtain ⟨rfl, h⟩ := hP26
  refine X_tln ?_
  refine X_aload_n C dX4_line_79 rfl 0 rfl (isRV_r _) ?_
  refine X_iconst (v := 0) C dX4_line_80 rfl ?_
  refine X_putSI (ci := 4) (j := 14) (q := (RX4, TX4, 54)) C rfl (by decide) q1780 rfl rfl dX4_line_81 (LX_S hX (k := 175) rfl) rfl rfl rfl ?_
  refine X_nm (fun s30 e31 => ?_)
  have h := h s30 e31
  refine X_iload_n C dX4_line_84 rfl 1 rfl ?_
  refine X_if_ne (tgt := 96) C dX4_line_85 (by decide) (fun c32 => ?_) (fun c32 => ?_)
  · have h := h.1 c32
    refine X_iload_n C dX4_line_96 rfl 1 rfl ?_
    refine X_iconst (v := 1) C dX4_line_97 rfl ?_
    refine X_icmp_ne (tgt := 109) C dX4_line_98 (by decide) (fun c33 => ?_) (fun c33 => ?_)
    · have h := h.1 c33
      refine X_iload_n C dX4_line_109 rfl 1 rfl ?_
      refine X_iconst (v := 2) C dX4_line_110 rfl ?_
      refine X_icmp_ne (tgt := 122) C dX4_line_111 (by decide) (fun c34 => ?_) (fun c34 => ?_)
      · have h := h.1 c34
        refine X_aload_n C dX4_line_122 rfl 0 rfl (isRV_r _) ?_
        refine X_iload_n C dX4_line_123 rfl 2 rfl ?_
        refine X_callVS (ci := 4) (q := (RX4, TX4, 54)) (As := [_]) (rest := []) C rfl (LX_S hX (k := 175) rfl) q2343 q2345 qs126 q136 q2346 ⟨rfl, nm_X4_writesBest⟩ rfl dX4_line_124 (m_X4_writesBest (Cx_l C) hX (d := d - 1) (by omega) s30 x2 h) (by omega) (by decide) (Nat.le_of_ble_eq_true rfl) (fun s36 w37 hE38 hP39 => ?_) (fun s42 E40 q41 hE38 hP39 => ?_)
        rotate_left
        · exact False.elim hP39
        obtain ⟨rfl, h⟩ := hP39
        refine X_tln ?_
        refine X_sub [0] (lo2 := [(0, _)]) rfl ?_
        exact t_X4_line_b127 hX hd C hn s36 h
      · have h := h.2 c34
        refine X_aload_n C dX4_line_114 rfl 0 rfl (isRV_r _) ?_
        refine X_iconst (v := 0) C dX4_line_115 rfl ?_
        refine X_callVS (ci := 4) (q := (RX4, TX4, 54)) (As := [_]) (rest := []) C rfl (LX_S hX (k := 175) rfl) q2338 q2340 qs125 q136 q2341 ⟨rfl, nm_X4_writesNode⟩ rfl dX4_line_116 (m_X4_writesNode_f (Cx_l C) hX 8 (d := d - 1) (by omega) s30 0 h) (by omega) (by decide) (Nat.le_of_ble_eq_true rfl) (fun s60 w61 hE62 hP63 => ?_) (fun s66 E64 q65 hE62 hP63 => ?_)
        rotate_left
        · exact False.elim hP63
        obtain ⟨rfl, h⟩ := hP63
        refine X_tln ?_
        refine X_goto (tgt := 127) C dX4_line_119 (by decide) ?_
        refine X_sub [0] (lo2 := [(0, _)]) rfl ?_
        exact t_X4_line_b127 hX hd C hn s60 h
    · have h := h.2 c33
      refine X_aload_n C dX4_line_101 rfl 0 rfl (isRV_r _) ?_
      refine X_iload_n C dX4_line_102 rfl 2 rfl ?_
      refine X_callVS (ci := 4) (q := (RX4, TX4, 54)) (As := [_]) (rest := []) C rfl (LX_S hX (k := 175) rfl) q2334 q2336 qs124 q136 q2337 ⟨rfl, nm_X4_writesGame⟩ rfl dX4_line_103 (m_X4_writesGame (Cx_l C) hX (d := d - 1) (by omega) s30 x2 h) (by omega) (by decide) (Nat.le_of_ble_eq_true rfl) (fun s68 w69 hE70 hP71 => ?_) (fun s74 E72 q73 hE70 hP71 => ?_)
      rotate_left
      · exact False.elim hP71
      obtain ⟨rfl, h⟩ := hP71
      refine X_tln ?_
      refine X_goto (tgt := 127) C dX4_line_106 (by decide) ?_
      refine X_sub [0] (lo2 := [(0, _)]) rfl ?_
      exact t_X4_line_b127 hX hd C hn s68 h
  · have h := h.2 c32
    refine X_aload_n C dX4_line_88 rfl 0 rfl (isRV_r _) ?_
    refine X_iload_n C dX4_line_89 rfl 2 rfl ?_
    refine X_callVS (ci := 4) (q := (RX4, TX4, 54)) (As := [_]) (rest := []) C rfl (LX_S hX (k := 175) rfl) q2315 q2317 qs120 q136 q2318 ⟨rfl, nm_X4_writesPoint⟩ rfl dX4_line_90 (m_X4_writesPoint (Cx_l C) hX (d := d - 1) (by omega) s30 x2 h) (by omega) (by decide) (Nat.le_of_ble_eq_true rfl) (fun s76 w77 hE78 hP79 => ?_) (fun s82 E80 q81 hE78 hP79 => ?_)
    rotate_left
    · exact False.elim hP79
    obtain ⟨rfl, h⟩ := hP79
    refine X_tln ?_
    refine X_goto (tgt := 127) C dX4_line_93 (by decide) ?_
    refine X_sub [0] (lo2 := [(0, _)]) rfl ?_
    exact t_X4_line_b127 hX hd C hn s76 h
def w_X4_line_b31 (Φ : St → Int32 → Prop) (st : St) (x1 : Int32) (x2 : Int32) (z0 : Int32) : Prop := w_X4_isIn x1.toInt64 0 3 (fun (r3 : Int32) => ((r3 = 0) → w_X4_line_b48 Φ st) ∧ ((¬ r3 = 0) → ((z0 ≠ 0) → ((x1 ≠ 2) → w_X4_line_b75 Φ st x1 x2) ∧ ((x1 = 2) → (((sI st 177 35) ≠ 0) → w_X4_line_b75 Φ st x1 x2) ∧ (((sI st 177 35) = 0) → w_X4_finds st 2 (fun (s85 : St) (r84 : Int32) => Φ s85 r84)))) ∧ ((z0 = 0) → w_X4_line_b48 Φ st)))
theorem t_X4_line_b31 {θ : Th} {κ : Kx} {Ph : Ph} (hX : LX θ) {d : Nat} (hd : 13 ≤ d) (C : Cx θ κ yX4_line cX4_line 5 (some Jvm.ClassFile.FieldType.int) [] d) {Φ : St → Int32 → Prop} (hn : ∀ st r, Φ st r → Ph.1 st (some (.int r))) (st : St) (x1 : Int32) (x2 : Int32) (z0 : Int32) (h : w_X4_line_b31 Φ st x1 x2 z0) : X θ κ Ph st 31 [(0, .ref (ad θ 175)), (1, .int x1), (2, .int x2)] [.int z0] := by
  unfold w_X4_line_b31 at h
  refine X_istore_n C dX4_line_31 rfl (lo2 := [(3, _), (0, _), (1, _), (2, _)]) (by decide) rfl ?_
  refine X_iload_n C dX4_line_32 rfl 2 rfl ?_
  refine X_i2l C dX4_line_33 ?_
  refine X_lconst (v := 0) C dX4_line_34 rfl ?_
  refine X_ldc2 C q1935 dX4_line_35 ?_
  refine X_callS (As := [_, _, _]) (rest := []) C q1936 q1937 q136 q1938 nm_X4_isIn rfl dX4_line_38 (m_X4_isIn (Cx_l C) hX (d := d - 1) (by omega) st x1.toInt64 0 3 h) (by omega) (by decide) (Nat.le_of_ble_eq_true rfl) (fun s9 w4 hE5 hP6 => ?_) (fun s10 E7 q8 hE5 hP6 => ?_)
  rotate_left
  · exact False.elim hP6
  obtain ⟨r3, rfl, rfl, h⟩ := hP6
  refine X_tls ?_
  refine X_if_eq (tgt := 48) C dX4_line_41 (by decide) (fun c11 => ?_) (fun c11 => ?_)
  · have h := h.1 c11
    refine X_sub [1] (lo2 := [(0, _)]) rfl ?_
    exact t_X4_line_b48 hX hd C hn st h
  · have h := h.2 c11
    refine X_iload_n C dX4_line_44 rfl 0 rfl ?_
    refine X_if_ne (tgt := 54) C dX4_line_45 (by decide) (fun c20 => ?_) (fun c20 => ?_)
    · have h := h.1 c20
      refine X_iload_n C dX4_line_54 rfl 2 rfl ?_
      refine X_iconst (v := 2) C dX4_line_55 rfl ?_
      refine X_icmp_ne (tgt := 75) C dX4_line_56 (by decide) (fun c21 => ?_) (fun c21 => ?_)
      · have h := h.1 c21
        refine X_sub [1, 2, 3] (lo2 := [(0, _), (1, _), (2, _)]) rfl ?_
        exact t_X4_line_b75 hX hd C hn st x1 x2 h
      · have h := h.2 c21
        refine X_aload_n C dX4_line_59 rfl 1 rfl (isRV_r _) ?_
        refine X_getF (ci := 4) (j := 1) (q := (RX4, TX4, 54)) C rfl (by decide) q1767 rfl dX4_line_60 (b := 177) (LX_S hX (k := 175) rfl) (LX_F hX (k := 175) (j := 1) rfl) rfl ?_
        refine X_bipush (v := 35) C dX4_line_63 rfl ?_
        refine X_ialdS C (LX_S hX (k := 177) rfl) (LX_L hX (k := 177) rfl) (vp_dec rfl) rfl dX4_line_65 ?_
        refine X_if_ne (tgt := 75) C dX4_line_66 (by decide) (fun c83 => ?_) (fun c83 => ?_)
        · have h := h.1 c83
          refine X_sub [1, 2, 3] (lo2 := [(0, _), (1, _), (2, _)]) rfl ?_
          exact t_X4_line_b75 hX hd C hn st x1 x2 h
        · have h := h.2 c83
          refine X_aload_n C dX4_line_69 rfl 1 rfl (isRV_r _) ?_
          refine X_iconst (v := 2) C dX4_line_70 rfl ?_
          refine X_callVS (ci := 4) (q := (RX4, TX4, 54)) (As := [_]) (rest := []) C rfl (LX_S hX (k := 175) rfl) q1939 q1941 qs63 q136 q1942 ⟨rfl, nm_X4_finds⟩ rfl dX4_line_71 (m_X4_finds (Cx_l C) hX (d := d - 1) (by omega) st 2 h) (by omega) (by decide) (Nat.le_of_ble_eq_true rfl) (fun s85 w86 hE87 hP88 => ?_) (fun s91 E89 q90 hE87 hP88 => ?_)
          rotate_left
          · exact False.elim hP88
          obtain ⟨r84, rfl, h⟩ := hP88
          refine X_tls ?_
          exact X_iret C rfl dX4_line_74 (hn s85 _ h)
    · have h := h.2 c20
      refine X_sub [1] (lo2 := [(0, _)]) rfl ?_
      exact t_X4_line_b48 hX hd C hn st h
def w_X4_line_b26 (Φ : St → Int32 → Prop) (st : St) (x1 : Int32) (x2 : Int32) : Prop := w_X4_line_b31 Φ st x1 x2 1
theorem t_X4_line_b26 {θ : Th} {κ : Kx} {Ph : Ph} (hX : LX θ) {d : Nat} (hd : 13 ≤ d) (C : Cx θ κ yX4_line cX4_line 5 (some Jvm.ClassFile.FieldType.int) [] d) {Φ : St → Int32 → Prop} (hn : ∀ st r, Φ st r → Ph.1 st (some (.int r))) (st : St) (x1 : Int32) (x2 : Int32) (h : w_X4_line_b26 Φ st x1 x2) : X θ κ Ph st 26 [(0, .ref (ad θ 175)), (1, .int x1), (2, .int x2)] [] := by
  unfold w_X4_line_b26 at h
  refine X_iconst (v := 1) C dX4_line_26 rfl ?_
  refine X_goto (tgt := 31) C dX4_line_27 (by decide) ?_
  exact t_X4_line_b31 hX hd C hn st x1 x2 1 h
def w_X4_line (st : St) (p1 : Int32) (p2 : Int32) (Φ : St → Int32 → Prop) : Prop := ((p1 ≠ 1) → ((p1 = 2) → w_X4_line_b26 Φ st p1 p2) ∧ ((¬ p1 = 2) → w_X4_isPoint st p2 (fun (r92 : Int32) => ((r92 = 0) → w_X4_line_b31 Φ st p1 p2 0) ∧ ((¬ r92 = 0) → w_X4_line_b26 Φ st p1 p2)))) ∧ ((p1 = 1) → w_X4_isState st p2 (fun (r101 : Int32) => w_X4_line_b31 Φ st p1 p2 r101))
theorem e_X4_line : plainFor yX4_line = true := plainFor_of_name (by decide +kernel)
theorem m_X4_line {θ : Th} {l : Launch} (hl0 : l.stackTraces = false) (hX : LX θ) {d : Nat} (hd : 13 ≤ d) (st : St) (p1 : Int32) (p2 : Int32) {Φ : St → Int32 → Prop} (h : w_X4_line st p1 p2 Φ) : Ct θ l yX4_line (ws_ yX4_line cX4_line 5 (some Jvm.ClassFile.FieldType.int)) d [.ref (ad θ 175), .int p1, .int p2] st (pI Φ, noX) := by
  refine Ct_entry hl0 e_X4_line (Nat.le_of_ble_eq_true rfl) (fun κ hκ _ C => ?_)
  have hn : ∀ st r, Φ st r → ((pI Φ, noX) : Ph).1 st (some (.int r)) := fun st r q => ⟨r, rfl, q⟩
  change X _ _ _ _ _ [(0, .ref (ad θ 175)), (1, .int p1), (2, .int p2)] _
  unfold w_X4_line at h
  refine X_iload_n C dX4_line_0 rfl 1 rfl ?_
  refine X_iconst (v := 1) C dX4_line_1 rfl ?_
  refine X_icmp_ne (tgt := 13) C dX4_line_2 (by decide) (fun c1 => ?_) (fun c1 => ?_)
  · have h := h.1 c1
    refine X_iload_n C dX4_line_13 rfl 1 rfl ?_
    refine X_iconst (v := 2) C dX4_line_14 rfl ?_
    refine X_icmp_eq (tgt := 26) C dX4_line_15 (by decide) (fun c2 => ?_) (fun c2 => ?_)
    · have h := h.1 c2
      exact t_X4_line_b26 hX hd C hn st p1 p2 h
    · have h := h.2 c2
      refine X_aload_n C dX4_line_18 rfl 0 rfl (isRV_r _) ?_
      refine X_iload_n C dX4_line_19 rfl 2 rfl ?_
      refine X_callVS (ci := 4) (q := (RX4, TX4, 54)) (As := [_]) (rest := []) C rfl (LX_S hX (k := 175) rfl) q1992 q1994 qs67 q136 q1995 ⟨rfl, nm_X4_isPoint⟩ rfl dX4_line_20 (m_X4_isPoint (Cx_l C) hX (d := d - 1) (by omega) st p2 h) (by omega) (by decide) (Nat.le_of_ble_eq_true rfl) (fun s98 w93 hE94 hP95 => ?_) (fun s99 E96 q97 hE94 hP95 => ?_)
      rotate_left
      · exact False.elim hP95
      obtain ⟨r92, rfl, rfl, h⟩ := hP95
      refine X_tls ?_
      refine X_if_eq (tgt := 30) C dX4_line_23 (by decide) (fun c100 => ?_) (fun c100 => ?_)
      · have h := h.1 c100
        refine X_iconst (v := 0) C dX4_line_30 rfl ?_
        exact t_X4_line_b31 hX hd C hn st p1 p2 0 h
      · have h := h.2 c100
        exact t_X4_line_b26 hX hd C hn st p1 p2 h
  · have h := h.2 c1
    refine X_aload_n C dX4_line_5 rfl 0 rfl (isRV_r _) ?_
    refine X_iload_n C dX4_line_6 rfl 2 rfl ?_
    refine X_callVS (ci := 4) (q := (RX4, TX4, 54)) (As := [_]) (rest := []) C rfl (LX_S hX (k := 175) rfl) q2004 q2006 qs69 q136 q2007 ⟨rfl, nm_X4_isState⟩ rfl dX4_line_7 (m_X4_isState (Cx_l C) hX (d := d - 1) (by omega) st p2 h) (by omega) (by decide) (Nat.le_of_ble_eq_true rfl) (fun s107 w102 hE103 hP104 => ?_) (fun s108 E105 q106 hE103 hP104 => ?_)
    rotate_left
    · exact False.elim hP104
    obtain ⟨r101, rfl, rfl, h⟩ := hP104
    refine X_tls ?_
    refine X_goto (tgt := 31) C dX4_line_10 (by decide) ?_
    exact t_X4_line_b31 hX hd C hn st p1 p2 r101 h
