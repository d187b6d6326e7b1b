/-! THE LAW: the script lies apart, an old row; the loop of calls -/
set_option maxRecDepth 100000
def yL_law : MethodName := ⟨"SecretsWorthLaw", "law", "([I)Z"⟩
def SCR (θ : Th) (κ : Kx) (b L : Nat) (xs : Nat → Int32) : Prop := match κ with
  | (_, _, _, _, s, _) => va_X b L xs s s.heap ∧ b < thb θ
section LAWR
variable {θ : Th} {κ : Kx} {Φ : Ph} {y : MethodName} {cc : ByteArray} {nL : Nat} {ret : Option FieldType} {hh : List (Nat × Nat × Nat × Nat)} {d : Nat} {st : St} {pc : Nat} {lo : List (Nat × Value)} {stk : List Value}
theorem X_alenC (C : Cx θ κ y cc nL ret hh d) {b L : Nat} {xs : Nat → Int32} (hSc : SCR θ κ b L xs) {v : Int32} (hv : Int32.ofNat L = v) (dg : decode cc pc = .ok (.arraylength, 1)) (k : X θ κ Φ st (pc + 1) lo (.int v :: stk)) : X θ κ Φ st pc lo (.ref b :: stk) := by
  obtain ⟨p, l, e, R, s, m, args, below, meth, c, st0⟩ := κ
  obtain ⟨hx, hb, hml, hown, hts, hr, hlk, htb, hK, hW0, hR, hst, hnm⟩ := C
  obtain ⟨⟨scr, h1, h2, h3, h4, h5⟩, hbl⟩ := hSc
  intro H locs ls cells slots hW hE hl hS
  have hH : H[b]? = some scr := (hS.2.1 b (Array.getElem?_eq_some_iff.mp h1).1 (Nat.not_le.mpr hbl)).trans h1
  exact W.alen hx hb hH h2 (by rw [h4]; exact hv) rfl rfl dg (k H locs ls cells slots hW hE hl hS)
theorem X_ialdC (C : Cx θ κ y cc nL ret hh d) {b L : Nat} {xs : Nat → Int32} (hSc : SCR θ κ b L xs) {i : Int32} (hin : vp_in i L) (dg : decode cc pc = .ok (.iaload, 1)) (k : X θ κ Φ st (pc + 1) lo (.int (xs i.toNatClampNeg) :: stk)) : X θ κ Φ st pc lo (.int i :: .ref b :: stk) := by
  obtain ⟨p, l, e, R, s, m, args, below, meth, c, st0⟩ := κ
  obtain ⟨hx, hb, hml, hown, hts, hr, hlk, htb, hK, hW0, hR, hst, hnm⟩ := C
  obtain ⟨⟨scr, h1, h2, h3, h4, h5⟩, hbl⟩ := hSc
  intro H locs ls cells slots hW hE hl hS
  have hH : H[b]? = some scr := (hS.2.1 b (Array.getElem?_eq_some_iff.mp h1).1 (Nat.not_le.mpr hbl)).trans h1
  have hlt : i.toNatClampNeg < L := Nat.not_le.mp fun q => hin (Or.inr q)
  exact W.iald hx hb hH h2 h3 (by rw [h4]; exact hin) (h5 _ hlt) rfl rfl dg (k H locs ls cells slots hW hE hl hS)
end LAWR
def w_L_law_b1537 (LS : Nat) (xS : Nat → Int32) (Φ : St → Int32 → Prop) (K18 : St → Int32 → Prop) (st : St) (x3 : Int32) : Prop := K18 st (x3 + 6)
theorem t_L_law_b1537 {θ : Th} {κ : Kx} {Ph : Ph} (hX : LX θ) {bS LS : Nat} {xS : Nat → Int32} (hSc : SCR θ κ bS LS xS) {d : Nat} (hd : 28 ≤ d) (C : Cx θ κ yL_law cL_law 4 (some Jvm.ClassFile.FieldType.boolean) [] d) {Φ : St → Int32 → Prop} (hn : ∀ st r, Φ st r → Ph.1 st (some (.int r))) {K18 : St → Int32 → Prop} (hK18 : ∀ (st : St) (x3 : Int32), K18 st x3 → X θ κ Ph st 18 [(0, .ref bS), (1, .ref (ad θ 0)), (2, .ref (ad θ 175)), (3, .int x3)] []) (st : St) (x3 : Int32) (h : w_L_law_b1537 LS xS Φ K18 st x3) : X θ κ Ph st 1537 [(0, .ref bS), (1, .ref (ad θ 0)), (2, .ref (ad θ 175)), (3, .int x3)] [] := by
  unfold w_L_law_b1537 at h
  refine X_iinc (v := (x3 + 6)) C (j := 3) dL_law_1537 rfl rfl (lo2 := [(3, _), (0, _), (1, _), (2, _)]) (by decide) rfl ?_
  refine X_goto (tgt := 18) C dL_law_1540 (by decide) ?_
  refine X_sub [1, 2, 3, 0] (lo2 := [(0, _), (1, _), (2, _), (3, _)]) rfl ?_
  exact hK18 st (x3 + 6) h
def w_L_law_l18 (LS : Nat) (xS : Nat → Int32) (Φ : St → Int32 → Prop) (E1015 : St → Prop) (E1028 : St → Prop) (E1051 : St → Prop) (E1085 : St → Prop) (E1118 : St → Prop) (E1141 : St → Prop) (E1164 : St → Prop) (E1177 : St → Prop) (E1200 : St → Prop) (E1213 : St → Prop) (E1236 : St → Prop) (E1290 : St → Prop) (E1333 : St → Prop) (E1406 : St → Prop) (E1440 : St → Prop) (E1463 : St → Prop) (E1476 : St → Prop) (E1489 : St → Prop) (E1512 : St → Prop) (E1535 : St → Prop) (E1543 : St → Prop) (E233 : St → Prop) (E256 : St → Prop) (E289 : St → Prop) (E342 : St → Prop) (E375 : St → Prop) (E418 : St → Prop) (E441 : St → Prop) (E474 : St → Prop) (E507 : St → Prop) (E550 : St → Prop) (E584 : St → Prop) (E638 : St → Prop) (E702 : St → Prop) (E736 : St → Prop) (E769 : St → Prop) (E813 : St → Prop) (E836 : St → Prop) (E880 : St → Prop) (E914 : St → Prop) (E948 : St → Prop) (E992 : St → Prop) : Nat → St → Int32 → Prop
  | 0, _, _ => False
  | n + 1, st, x3 => ((((Int32.ofNat LS) - 6) < x3) → E1543 st) ∧ ((¬ ((Int32.ofNat LS) - 6) < x3) → vp_in x3 LS ∧ (((xS (x3).toNatClampNeg) &&& 63) = 0 → vp_in (x3 + 1) LS ∧ w_X0_states st (xS ((x3 + 1)).toNatClampNeg) (fun (s5 : St) (r4 : Int32) => w_X4_states s5 (xS ((x3 + 1)).toNatClampNeg) (fun (s13 : St) (r12 : Int32) => ((r4 = r12) → w_L_law_b1537 LS xS Φ (w_L_law_l18 LS xS Φ E1015 E1028 E1051 E1085 E1118 E1141 E1164 E1177 E1200 E1213 E1236 E1290 E1333 E1406 E1440 E1463 E1476 E1489 E1512 E1535 E1543 E233 E256 E289 E342 E375 E418 E441 E474 E507 E550 E584 E638 E702 E736 E769 E813 E836 E880 E914 E948 E992 n) s13 x3) ∧ ((¬ r4 = r12) → E233 s13)))) ∧ (((xS (x3).toNatClampNeg) &&& 63) = 1 → vp_in (x3 + 1) LS ∧ w_X0_parts st (xS ((x3 + 1)).toNatClampNeg) (fun (s24 : St) (r23 : Int32) => w_X4_parts s24 (xS ((x3 + 1)).toNatClampNeg) (fun (s32 : St) (r31 : Int32) => ((r23 = r31) → w_L_law_b1537 LS xS Φ (w_L_law_l18 LS xS Φ E1015 E1028 E1051 E1085 E1118 E1141 E1164 E1177 E1200 E1213 E1236 E1290 E1333 E1406 E1440 E1463 E1476 E1489 E1512 E1535 E1543 E233 E256 E289 E342 E375 E418 E441 E474 E507 E550 E584 E638 E702 E736 E769 E813 E836 E880 E914 E948 E992 n) s32 x3) ∧ ((¬ r23 = r31) → E256 s32)))) ∧ (((xS (x3).toNatClampNeg) &&& 63) = 2 → vp_in (x3 + 1) LS ∧ vp_in (x3 + 2) LS ∧ w_X0_size st (xS ((x3 + 1)).toNatClampNeg) (xS ((x3 + 2)).toNatClampNeg) (fun (s44 : St) (r43 : Int32) => w_X4_size s44 (xS ((x3 + 1)).toNatClampNeg) (xS ((x3 + 2)).toNatClampNeg) (fun (s52 : St) (r51 : Int32) => ((r43 = r51) → w_L_law_b1537 LS xS Φ (w_L_law_l18 LS xS Φ E1015 E1028 E1051 E1085 E1118 E1141 E1164 E1177 E1200 E1213 E1236 E1290 E1333 E1406 E1440 E1463 E1476 E1489 E1512 E1535 E1543 E233 E256 E289 E342 E375 E418 E441 E474 E507 E550 E584 E638 E702 E736 E769 E813 E836 E880 E914 E948 E992 n) s52 x3) ∧ ((¬ r43 = r51) → E289 s52)))) ∧ (((xS (x3).toNatClampNeg) &&& 63) = 3 → vp_in (x3 + 1) LS ∧ vp_in (x3 + 2) LS ∧ vp_in (x3 + 3) LS ∧ vp_in (x3 + 4) LS ∧ w_X0_cell st (xS ((x3 + 1)).toNatClampNeg) (xS ((x3 + 2)).toNatClampNeg) (xS ((x3 + 3)).toNatClampNeg) (xS ((x3 + 4)).toNatClampNeg) (fun (s66 : St) (r65 : Int32) => w_X4_cell s66 (xS ((x3 + 1)).toNatClampNeg) (xS ((x3 + 2)).toNatClampNeg) (xS ((x3 + 3)).toNatClampNeg) (xS ((x3 + 4)).toNatClampNeg) (fun (s74 : St) (r73 : Int32) => ((r65 = r73) → w_L_law_b1537 LS xS Φ (w_L_law_l18 LS xS Φ E1015 E1028 E1051 E1085 E1118 E1141 E1164 E1177 E1200 E1213 E1236 E1290 E1333 E1406 E1440 E1463 E1476 E1489 E1512 E1535 E1543 E233 E256 E289 E342 E375 E418 E441 E474 E507 E550 E584 E638 E702 E736 E769 E813 E836 E880 E914 E948 E992 n) s74 x3) ∧ ((¬ r65 = r73) → E342 s74)))) ∧ (((xS (x3).toNatClampNeg) &&& 63) = 4 → vp_in (x3 + 1) LS ∧ vp_in (x3 + 2) LS ∧ w_X0_lays st (xS ((x3 + 1)).toNatClampNeg) (xS ((x3 + 2)).toNatClampNeg) (fun (s86 : St) (r85 : Int32) => w_X4_lays s86 (xS ((x3 + 1)).toNatClampNeg) (xS ((x3 + 2)).toNatClampNeg) (fun (s94 : St) (r93 : Int32) => ((r85 = r93) → w_L_law_b1537 LS xS Φ (w_L_law_l18 LS xS Φ E1015 E1028 E1051 E1085 E1118 E1141 E1164 E1177 E1200 E1213 E1236 E1290 E1333 E1406 E1440 E1463 E1476 E1489 E1512 E1535 E1543 E233 E256 E289 E342 E375 E418 E441 E474 E507 E550 E584 E638 E702 E736 E769 E813 E836 E880 E914 E948 E992 n) s94 x3) ∧ ((¬ r85 = r93) → E375 s94)))) ∧ (((xS (x3).toNatClampNeg) &&& 63) = 5 → vp_in (x3 + 1) LS ∧ vp_in (x3 + 2) LS ∧ vp_in (x3 + 3) LS ∧ w_X0_look st (xS ((x3 + 1)).toNatClampNeg) (xS ((x3 + 2)).toNatClampNeg) (xS ((x3 + 3)).toNatClampNeg) (fun (s107 : St) (r106 : Int32) => w_X4_look s107 (xS ((x3 + 1)).toNatClampNeg) (xS ((x3 + 2)).toNatClampNeg) (xS ((x3 + 3)).toNatClampNeg) (fun (s115 : St) (r114 : Int32) => ((r106 = r114) → w_L_law_b1537 LS xS Φ (w_L_law_l18 LS xS Φ E1015 E1028 E1051 E1085 E1118 E1141 E1164 E1177 E1200 E1213 E1236 E1290 E1333 E1406 E1440 E1463 E1476 E1489 E1512 E1535 E1543 E233 E256 E289 E342 E375 E418 E441 E474 E507 E550 E584 E638 E702 E736 E769 E813 E836 E880 E914 E948 E992 n) s115 x3) ∧ ((¬ r106 = r114) → E418 s115)))) ∧ (((xS (x3).toNatClampNeg) &&& 63) = 6 → vp_in (x3 + 1) LS ∧ w_X0_prior st (xS ((x3 + 1)).toNatClampNeg) (fun (s126 : St) (r125 : Int32) => w_X4_prior s126 (xS ((x3 + 1)).toNatClampNeg) (fun (s134 : St) (r133 : Int32) => ((r125 = r133) → w_L_law_b1537 LS xS Φ (w_L_law_l18 LS xS Φ E1015 E1028 E1051 E1085 E1118 E1141 E1164 E1177 E1200 E1213 E1236 E1290 E1333 E1406 E1440 E1463 E1476 E1489 E1512 E1535 E1543 E233 E256 E289 E342 E375 E418 E441 E474 E507 E550 E584 E638 E702 E736 E769 E813 E836 E880 E914 E948 E992 n) s134 x3) ∧ ((¬ r125 = r133) → E441 s134)))) ∧ (((xS (x3).toNatClampNeg) &&& 63) = 7 → vp_in (x3 + 1) LS ∧ vp_in (x3 + 2) LS ∧ w_X0_target st (xS ((x3 + 1)).toNatClampNeg) (xS ((x3 + 2)).toNatClampNeg) (fun (s146 : St) (r145 : Int32) => w_X4_target s146 (xS ((x3 + 1)).toNatClampNeg) (xS ((x3 + 2)).toNatClampNeg) (fun (s154 : St) (r153 : Int32) => ((r145 = r153) → w_L_law_b1537 LS xS Φ (w_L_law_l18 LS xS Φ E1015 E1028 E1051 E1085 E1118 E1141 E1164 E1177 E1200 E1213 E1236 E1290 E1333 E1406 E1440 E1463 E1476 E1489 E1512 E1535 E1543 E233 E256 E289 E342 E375 E418 E441 E474 E507 E550 E584 E638 E702 E736 E769 E813 E836 E880 E914 E948 E992 n) s154 x3) ∧ ((¬ r145 = r153) → E474 s154)))) ∧ (((xS (x3).toNatClampNeg) &&& 63) = 8 → vp_in (x3 + 1) LS ∧ vp_in (x3 + 2) LS ∧ w_X0_give st (xS ((x3 + 1)).toNatClampNeg) (xS ((x3 + 2)).toNatClampNeg) (fun (s166 : St) (r165 : Int32) => w_X4_give s166 (xS ((x3 + 1)).toNatClampNeg) (xS ((x3 + 2)).toNatClampNeg) (fun (s174 : St) (r173 : Int32) => ((r165 = r173) → w_L_law_b1537 LS xS Φ (w_L_law_l18 LS xS Φ E1015 E1028 E1051 E1085 E1118 E1141 E1164 E1177 E1200 E1213 E1236 E1290 E1333 E1406 E1440 E1463 E1476 E1489 E1512 E1535 E1543 E233 E256 E289 E342 E375 E418 E441 E474 E507 E550 E584 E638 E702 E736 E769 E813 E836 E880 E914 E948 E992 n) s174 x3) ∧ ((¬ r165 = r173) → E507 s174)))) ∧ (((xS (x3).toNatClampNeg) &&& 63) = 9 → vp_in (x3 + 1) LS ∧ vp_in (x3 + 2) LS ∧ vp_in (x3 + 3) LS ∧ w_X0_average st (xS ((x3 + 1)).toNatClampNeg) (xS ((x3 + 2)).toNatClampNeg) (xS ((x3 + 3)).toNatClampNeg) (fun (s187 : St) (r186 : Int32) => w_X4_average s187 (xS ((x3 + 1)).toNatClampNeg) (xS ((x3 + 2)).toNatClampNeg) (xS ((x3 + 3)).toNatClampNeg) (fun (s195 : St) (r194 : Int32) => ((r186 = r194) → w_L_law_b1537 LS xS Φ (w_L_law_l18 LS xS Φ E1015 E1028 E1051 E1085 E1118 E1141 E1164 E1177 E1200 E1213 E1236 E1290 E1333 E1406 E1440 E1463 E1476 E1489 E1512 E1535 E1543 E233 E256 E289 E342 E375 E418 E441 E474 E507 E550 E584 E638 E702 E736 E769 E813 E836 E880 E914 E948 E992 n) s195 x3) ∧ ((¬ r186 = r194) → E550 s195)))) ∧ (((xS (x3).toNatClampNeg) &&& 63) = 10 → vp_in (x3 + 1) LS ∧ vp_in (x3 + 2) LS ∧ w_X0_value st (xS ((x3 + 1)).toNatClampNeg) (xS ((x3 + 2)).toNatClampNeg) (fun (s207 : St) (r206 : Int64) => w_X4_value s207 (xS ((x3 + 1)).toNatClampNeg) (xS ((x3 + 2)).toNatClampNeg) (fun (s215 : St) (r214 : Int64) => ((r206 = r214) → w_L_law_b1537 LS xS Φ (w_L_law_l18 LS xS Φ E1015 E1028 E1051 E1085 E1118 E1141 E1164 E1177 E1200 E1213 E1236 E1290 E1333 E1406 E1440 E1463 E1476 E1489 E1512 E1535 E1543 E233 E256 E289 E342 E375 E418 E441 E474 E507 E550 E584 E638 E702 E736 E769 E813 E836 E880 E914 E948 E992 n) s215 x3) ∧ ((¬ r206 = r214) → E584 s215)))) ∧ (((xS (x3).toNatClampNeg) &&& 63) = 11 → vp_in (x3 + 1) LS ∧ vp_in (x3 + 2) LS ∧ vp_in (x3 + 3) LS ∧ vp_in (x3 + 4) LS ∧ w_X0_plan st (xS ((x3 + 1)).toNatClampNeg) (xS ((x3 + 2)).toNatClampNeg) (xS ((x3 + 3)).toNatClampNeg) (xS ((x3 + 4)).toNatClampNeg) (fun (s229 : St) (r228 : Int64) => w_X4_plan s229 (xS ((x3 + 1)).toNatClampNeg) (xS ((x3 + 2)).toNatClampNeg) (xS ((x3 + 3)).toNatClampNeg) (xS ((x3 + 4)).toNatClampNeg) (fun (s237 : St) (r236 : Int64) => ((r228 = r236) → w_L_law_b1537 LS xS Φ (w_L_law_l18 LS xS Φ E1015 E1028 E1051 E1085 E1118 E1141 E1164 E1177 E1200 E1213 E1236 E1290 E1333 E1406 E1440 E1463 E1476 E1489 E1512 E1535 E1543 E233 E256 E289 E342 E375 E418 E441 E474 E507 E550 E584 E638 E702 E736 E769 E813 E836 E880 E914 E948 E992 n) s237 x3) ∧ ((¬ r228 = r236) → E638 s237)))) ∧ (((xS (x3).toNatClampNeg) &&& 63) = 12 → vp_in (x3 + 1) LS ∧ vp_in (x3 + 2) LS ∧ vp_in (x3 + 3) LS ∧ vp_in (x3 + 4) LS ∧ vp_in (x3 + 5) LS ∧ w_X0_mix st (xS ((x3 + 1)).toNatClampNeg) (xS ((x3 + 2)).toNatClampNeg) (xS ((x3 + 3)).toNatClampNeg) (xS ((x3 + 4)).toNatClampNeg) (xS ((x3 + 5)).toNatClampNeg) (fun (s252 : St) (r251 : Int64) => w_X4_mix s252 (xS ((x3 + 1)).toNatClampNeg) (xS ((x3 + 2)).toNatClampNeg) (xS ((x3 + 3)).toNatClampNeg) (xS ((x3 + 4)).toNatClampNeg) (xS ((x3 + 5)).toNatClampNeg) (fun (s260 : St) (r259 : Int64) => ((r251 = r259) → w_L_law_b1537 LS xS Φ (w_L_law_l18 LS xS Φ E1015 E1028 E1051 E1085 E1118 E1141 E1164 E1177 E1200 E1213 E1236 E1290 E1333 E1406 E1440 E1463 E1476 E1489 E1512 E1535 E1543 E233 E256 E289 E342 E375 E418 E441 E474 E507 E550 E584 E638 E702 E736 E769 E813 E836 E880 E914 E948 E992 n) s260 x3) ∧ ((¬ r251 = r259) → E702 s260)))) ∧ (((xS (x3).toNatClampNeg) &&& 63) = 13 → vp_in (x3 + 1) LS ∧ vp_in (x3 + 2) LS ∧ w_X0_hull st (xS ((x3 + 1)).toNatClampNeg) (xS ((x3 + 2)).toNatClampNeg) (fun (s272 : St) (r271 : Int64) => w_X4_hull s272 (xS ((x3 + 1)).toNatClampNeg) (xS ((x3 + 2)).toNatClampNeg) (fun (s280 : St) (r279 : Int64) => ((r271 = r279) → w_L_law_b1537 LS xS Φ (w_L_law_l18 LS xS Φ E1015 E1028 E1051 E1085 E1118 E1141 E1164 E1177 E1200 E1213 E1236 E1290 E1333 E1406 E1440 E1463 E1476 E1489 E1512 E1535 E1543 E233 E256 E289 E342 E375 E418 E441 E474 E507 E550 E584 E638 E702 E736 E769 E813 E836 E880 E914 E948 E992 n) s280 x3) ∧ ((¬ r271 = r279) → E736 s280)))) ∧ (((xS (x3).toNatClampNeg) &&& 63) = 14 → vp_in (x3 + 1) LS ∧ vp_in (x3 + 2) LS ∧ w_X0_best st (xS ((x3 + 1)).toNatClampNeg) (xS ((x3 + 2)).toNatClampNeg) (fun (s292 : St) (r291 : Int32) => w_X4_best s292 (xS ((x3 + 1)).toNatClampNeg) (xS ((x3 + 2)).toNatClampNeg) (fun (s300 : St) (r299 : Int32) => ((r291 = r299) → w_L_law_b1537 LS xS Φ (w_L_law_l18 LS xS Φ E1015 E1028 E1051 E1085 E1118 E1141 E1164 E1177 E1200 E1213 E1236 E1290 E1333 E1406 E1440 E1463 E1476 E1489 E1512 E1535 E1543 E233 E256 E289 E342 E375 E418 E441 E474 E507 E550 E584 E638 E702 E736 E769 E813 E836 E880 E914 E948 E992 n) s300 x3) ∧ ((¬ r291 = r299) → E769 s300)))) ∧ (((xS (x3).toNatClampNeg) &&& 63) = 15 → vp_in (x3 + 1) LS ∧ vp_in (x3 + 2) LS ∧ vp_in (x3 + 3) LS ∧ w_X0_weight st (xS ((x3 + 1)).toNatClampNeg) (xS ((x3 + 2)).toNatClampNeg) (xS ((x3 + 3)).toNatClampNeg) (fun (s313 : St) (r312 : Int64) => w_X4_weight s313 (xS ((x3 + 1)).toNatClampNeg) (xS ((x3 + 2)).toNatClampNeg) (xS ((x3 + 3)).toNatClampNeg) (fun (s321 : St) (r320 : Int64) => ((r312 = r320) → w_L_law_b1537 LS xS Φ (w_L_law_l18 LS xS Φ E1015 E1028 E1051 E1085 E1118 E1141 E1164 E1177 E1200 E1213 E1236 E1290 E1333 E1406 E1440 E1463 E1476 E1489 E1512 E1535 E1543 E233 E256 E289 E342 E375 E418 E441 E474 E507 E550 E584 E638 E702 E736 E769 E813 E836 E880 E914 E948 E992 n) s321 x3) ∧ ((¬ r312 = r320) → E813 s321)))) ∧ (((xS (x3).toNatClampNeg) &&& 63) = 16 → vp_in (x3 + 1) LS ∧ w_X0_points st (xS ((x3 + 1)).toNatClampNeg) (fun (s332 : St) (r331 : Int32) => w_X4_points_2 s332 (xS ((x3 + 1)).toNatClampNeg) (fun (s340 : St) (r339 : Int32) => ((r331 = r339) → w_L_law_b1537 LS xS Φ (w_L_law_l18 LS xS Φ E1015 E1028 E1051 E1085 E1118 E1141 E1164 E1177 E1200 E1213 E1236 E1290 E1333 E1406 E1440 E1463 E1476 E1489 E1512 E1535 E1543 E233 E256 E289 E342 E375 E418 E441 E474 E507 E550 E584 E638 E702 E736 E769 E813 E836 E880 E914 E948 E992 n) s340 x3) ∧ ((¬ r331 = r339) → E836 s340)))) ∧ (((xS (x3).toNatClampNeg) &&& 63) = 17 → vp_in (x3 + 1) LS ∧ vp_in (x3 + 2) LS ∧ vp_in (x3 + 3) LS ∧ w_X0_price st (xS ((x3 + 1)).toNatClampNeg) (xS ((x3 + 2)).toNatClampNeg) (xS ((x3 + 3)).toNatClampNeg) (fun (s353 : St) (r352 : Int64) => w_X4_price s353 (xS ((x3 + 1)).toNatClampNeg) (xS ((x3 + 2)).toNatClampNeg) (xS ((x3 + 3)).toNatClampNeg) (fun (s361 : St) (r360 : Int64) => ((r352 = r360) → w_L_law_b1537 LS xS Φ (w_L_law_l18 LS xS Φ E1015 E1028 E1051 E1085 E1118 E1141 E1164 E1177 E1200 E1213 E1236 E1290 E1333 E1406 E1440 E1463 E1476 E1489 E1512 E1535 E1543 E233 E256 E289 E342 E375 E418 E441 E474 E507 E550 E584 E638 E702 E736 E769 E813 E836 E880 E914 E948 E992 n) s361 x3) ∧ ((¬ r352 = r360) → E880 s361)))) ∧ (((xS (x3).toNatClampNeg) &&& 63) = 18 → vp_in (x3 + 1) LS ∧ vp_in (x3 + 2) LS ∧ w_X0_once st (xS ((x3 + 1)).toNatClampNeg) (xS ((x3 + 2)).toNatClampNeg) (fun (s373 : St) (r372 : Int64) => w_X4_once s373 (xS ((x3 + 1)).toNatClampNeg) (xS ((x3 + 2)).toNatClampNeg) (fun (s381 : St) (r380 : Int64) => ((r372 = r380) → w_L_law_b1537 LS xS Φ (w_L_law_l18 LS xS Φ E1015 E1028 E1051 E1085 E1118 E1141 E1164 E1177 E1200 E1213 E1236 E1290 E1333 E1406 E1440 E1463 E1476 E1489 E1512 E1535 E1543 E233 E256 E289 E342 E375 E418 E441 E474 E507 E550 E584 E638 E702 E736 E769 E813 E836 E880 E914 E948 E992 n) s381 x3) ∧ ((¬ r372 = r380) → E914 s381)))) ∧ (((xS (x3).toNatClampNeg) &&& 63) = 19 → vp_in (x3 + 1) LS ∧ vp_in (x3 + 2) LS ∧ w_X0_gap st (xS ((x3 + 1)).toNatClampNeg) (xS ((x3 + 2)).toNatClampNeg) (fun (s393 : St) (r392 : Int64) => w_X4_gap s393 (xS ((x3 + 1)).toNatClampNeg) (xS ((x3 + 2)).toNatClampNeg) (fun (s401 : St) (r400 : Int64) => ((r392 = r400) → w_L_law_b1537 LS xS Φ (w_L_law_l18 LS xS Φ E1015 E1028 E1051 E1085 E1118 E1141 E1164 E1177 E1200 E1213 E1236 E1290 E1333 E1406 E1440 E1463 E1476 E1489 E1512 E1535 E1543 E233 E256 E289 E342 E375 E418 E441 E474 E507 E550 E584 E638 E702 E736 E769 E813 E836 E880 E914 E948 E992 n) s401 x3) ∧ ((¬ r392 = r400) → E948 s401)))) ∧ (((xS (x3).toNatClampNeg) &&& 63) = 20 → vp_in (x3 + 1) LS ∧ vp_in (x3 + 2) LS ∧ vp_in (x3 + 3) LS ∧ w_X0_posterior st (xS ((x3 + 1)).toNatClampNeg) (xS ((x3 + 2)).toNatClampNeg) (xS ((x3 + 3)).toNatClampNeg) (fun (s414 : St) (r413 : Int64) => w_X4_posterior s414 (xS ((x3 + 1)).toNatClampNeg) (xS ((x3 + 2)).toNatClampNeg) (xS ((x3 + 3)).toNatClampNeg) (fun (s422 : St) (r421 : Int64) => ((r413 = r421) → w_L_law_b1537 LS xS Φ (w_L_law_l18 LS xS Φ E1015 E1028 E1051 E1085 E1118 E1141 E1164 E1177 E1200 E1213 E1236 E1290 E1333 E1406 E1440 E1463 E1476 E1489 E1512 E1535 E1543 E233 E256 E289 E342 E375 E418 E441 E474 E507 E550 E584 E638 E702 E736 E769 E813 E836 E880 E914 E948 E992 n) s422 x3) ∧ ((¬ r413 = r421) → E992 s422)))) ∧ (((xS (x3).toNatClampNeg) &&& 63) = 21 → vp_in (x3 + 1) LS ∧ w_X0_feed st (xS ((x3 + 1)).toNatClampNeg) (fun (s433 : St) (r432 : Int32) => w_X4_feed s433 (xS ((x3 + 1)).toNatClampNeg) (fun (s441 : St) (r440 : Int32) => ((r432 = r440) → w_L_law_b1537 LS xS Φ (w_L_law_l18 LS xS Φ E1015 E1028 E1051 E1085 E1118 E1141 E1164 E1177 E1200 E1213 E1236 E1290 E1333 E1406 E1440 E1463 E1476 E1489 E1512 E1535 E1543 E233 E256 E289 E342 E375 E418 E441 E474 E507 E550 E584 E638 E702 E736 E769 E813 E836 E880 E914 E948 E992 n) s441 x3) ∧ ((¬ r432 = r440) → E1015 s441)))) ∧ (((xS (x3).toNatClampNeg) &&& 63) = 22 → w_X0_read st (fun (s451 : St) (r450 : Int32) => w_X4_read s451 (fun (s459 : St) (r458 : Int32) => ((r450 = r458) → w_L_law_b1537 LS xS Φ (w_L_law_l18 LS xS Φ E1015 E1028 E1051 E1085 E1118 E1141 E1164 E1177 E1200 E1213 E1236 E1290 E1333 E1406 E1440 E1463 E1476 E1489 E1512 E1535 E1543 E233 E256 E289 E342 E375 E418 E441 E474 E507 E550 E584 E638 E702 E736 E769 E813 E836 E880 E914 E948 E992 n) s459 x3) ∧ ((¬ r450 = r458) → E1028 s459)))) ∧ (((xS (x3).toNatClampNeg) &&& 63) = 23 → vp_in (x3 + 1) LS ∧ w_X0_tree st (xS ((x3 + 1)).toNatClampNeg) (fun (s470 : St) (r469 : Int32) => w_X4_tree s470 (xS ((x3 + 1)).toNatClampNeg) (fun (s478 : St) (r477 : Int32) => ((r469 = r477) → w_L_law_b1537 LS xS Φ (w_L_law_l18 LS xS Φ E1015 E1028 E1051 E1085 E1118 E1141 E1164 E1177 E1200 E1213 E1236 E1290 E1333 E1406 E1440 E1463 E1476 E1489 E1512 E1535 E1543 E233 E256 E289 E342 E375 E418 E441 E474 E507 E550 E584 E638 E702 E736 E769 E813 E836 E880 E914 E948 E992 n) s478 x3) ∧ ((¬ r469 = r477) → E1051 s478)))) ∧ (((xS (x3).toNatClampNeg) &&& 63) = 24 → vp_in (x3 + 1) LS ∧ vp_in (x3 + 2) LS ∧ w_X0_worth st (xS ((x3 + 1)).toNatClampNeg) (xS ((x3 + 2)).toNatClampNeg) (fun (s490 : St) (r489 : Int64) => w_X4_worth s490 (xS ((x3 + 1)).toNatClampNeg) (xS ((x3 + 2)).toNatClampNeg) (fun (s498 : St) (r497 : Int64) => ((r489 = r497) → w_L_law_b1537 LS xS Φ (w_L_law_l18 LS xS Φ E1015 E1028 E1051 E1085 E1118 E1141 E1164 E1177 E1200 E1213 E1236 E1290 E1333 E1406 E1440 E1463 E1476 E1489 E1512 E1535 E1543 E233 E256 E289 E342 E375 E418 E441 E474 E507 E550 E584 E638 E702 E736 E769 E813 E836 E880 E914 E948 E992 n) s498 x3) ∧ ((¬ r489 = r497) → E1085 s498)))) ∧ (((xS (x3).toNatClampNeg) &&& 63) = 25 → vp_in (x3 + 1) LS ∧ vp_in (x3 + 2) LS ∧ w_X0_line st (xS ((x3 + 1)).toNatClampNeg) (xS ((x3 + 2)).toNatClampNeg) (fun (s510 : St) (r509 : Int32) => w_X4_line s510 (xS ((x3 + 1)).toNatClampNeg) (xS ((x3 + 2)).toNatClampNeg) (fun (s518 : St) (r517 : Int32) => ((r509 = r517) → w_L_law_b1537 LS xS Φ (w_L_law_l18 LS xS Φ E1015 E1028 E1051 E1085 E1118 E1141 E1164 E1177 E1200 E1213 E1236 E1290 E1333 E1406 E1440 E1463 E1476 E1489 E1512 E1535 E1543 E233 E256 E289 E342 E375 E418 E441 E474 E507 E550 E584 E638 E702 E736 E769 E813 E836 E880 E914 E948 E992 n) s518 x3) ∧ ((¬ r509 = r517) → E1118 s518)))) ∧ (((xS (x3).toNatClampNeg) &&& 63) = 26 → vp_in (x3 + 1) LS ∧ w_X0_letter st (xS ((x3 + 1)).toNatClampNeg) (fun (s529 : St) (r528 : Int32) => w_X4_letter s529 (xS ((x3 + 1)).toNatClampNeg) (fun (s537 : St) (r536 : Int32) => ((r528 = r536) → w_L_law_b1537 LS xS Φ (w_L_law_l18 LS xS Φ E1015 E1028 E1051 E1085 E1118 E1141 E1164 E1177 E1200 E1213 E1236 E1290 E1333 E1406 E1440 E1463 E1476 E1489 E1512 E1535 E1543 E233 E256 E289 E342 E375 E418 E441 E474 E507 E550 E584 E638 E702 E736 E769 E813 E836 E880 E914 E948 E992 n) s537 x3) ∧ ((¬ r528 = r536) → E1141 s537)))) ∧ (((xS (x3).toNatClampNeg) &&& 63) = 27 → vp_in (x3 + 1) LS ∧ w_X0_letters st (xS ((x3 + 1)).toNatClampNeg) (fun (s548 : St) (r547 : Int32) => w_X4_letters s548 (xS ((x3 + 1)).toNatClampNeg) (fun (s556 : St) (r555 : Int32) => ((r547 = r555) → w_L_law_b1537 LS xS Φ (w_L_law_l18 LS xS Φ E1015 E1028 E1051 E1085 E1118 E1141 E1164 E1177 E1200 E1213 E1236 E1290 E1333 E1406 E1440 E1463 E1476 E1489 E1512 E1535 E1543 E233 E256 E289 E342 E375 E418 E441 E474 E507 E550 E584 E638 E702 E736 E769 E813 E836 E880 E914 E948 E992 n) s556 x3) ∧ ((¬ r547 = r555) → E1164 s556)))) ∧ (((xS (x3).toNatClampNeg) &&& 63) = 28 → w_X0_begin st (fun (s566 : St) (r565 : Int32) => w_X4_begin s566 (fun (s574 : St) (r573 : Int32) => ((r565 = r573) → w_L_law_b1537 LS xS Φ (w_L_law_l18 LS xS Φ E1015 E1028 E1051 E1085 E1118 E1141 E1164 E1177 E1200 E1213 E1236 E1290 E1333 E1406 E1440 E1463 E1476 E1489 E1512 E1535 E1543 E233 E256 E289 E342 E375 E418 E441 E474 E507 E550 E584 E638 E702 E736 E769 E813 E836 E880 E914 E948 E992 n) s574 x3) ∧ ((¬ r565 = r573) → E1177 s574)))) ∧ (((xS (x3).toNatClampNeg) &&& 63) = 29 → vp_in (x3 + 1) LS ∧ w_X0_round st (xS ((x3 + 1)).toNatClampNeg) (fun (s585 : St) (r584 : Int32) => w_X4_round s585 (xS ((x3 + 1)).toNatClampNeg) (fun (s593 : St) (r592 : Int32) => ((r584 = r592) → w_L_law_b1537 LS xS Φ (w_L_law_l18 LS xS Φ E1015 E1028 E1051 E1085 E1118 E1141 E1164 E1177 E1200 E1213 E1236 E1290 E1333 E1406 E1440 E1463 E1476 E1489 E1512 E1535 E1543 E233 E256 E289 E342 E375 E418 E441 E474 E507 E550 E584 E638 E702 E736 E769 E813 E836 E880 E914 E948 E992 n) s593 x3) ∧ ((¬ r584 = r592) → E1200 s593)))) ∧ (((xS (x3).toNatClampNeg) &&& 63) = 30 → w_X0_back st (fun (s603 : St) (r602 : Int32) => w_X4_back s603 (fun (s611 : St) (r610 : Int32) => ((r602 = r610) → w_L_law_b1537 LS xS Φ (w_L_law_l18 LS xS Φ E1015 E1028 E1051 E1085 E1118 E1141 E1164 E1177 E1200 E1213 E1236 E1290 E1333 E1406 E1440 E1463 E1476 E1489 E1512 E1535 E1543 E233 E256 E289 E342 E375 E418 E441 E474 E507 E550 E584 E638 E702 E736 E769 E813 E836 E880 E914 E948 E992 n) s611 x3) ∧ ((¬ r602 = r610) → E1213 s611)))) ∧ (((xS (x3).toNatClampNeg) &&& 63) = 31 → vp_in (x3 + 1) LS ∧ w_X0_played st (xS ((x3 + 1)).toNatClampNeg) (fun (s622 : St) (r621 : Int32) => w_X4_played s622 (xS ((x3 + 1)).toNatClampNeg) (fun (s630 : St) (r629 : Int32) => ((r621 = r629) → w_L_law_b1537 LS xS Φ (w_L_law_l18 LS xS Φ E1015 E1028 E1051 E1085 E1118 E1141 E1164 E1177 E1200 E1213 E1236 E1290 E1333 E1406 E1440 E1463 E1476 E1489 E1512 E1535 E1543 E233 E256 E289 E342 E375 E418 E441 E474 E507 E550 E584 E638 E702 E736 E769 E813 E836 E880 E914 E948 E992 n) s630 x3) ∧ ((¬ r621 = r629) → E1236 s630)))) ∧ (((xS (x3).toNatClampNeg) &&& 63) = 32 → vp_in (x3 + 1) LS ∧ vp_in (x3 + 2) LS ∧ vp_in (x3 + 3) LS ∧ vp_in (x3 + 4) LS ∧ w_X0_replay st (xS ((x3 + 1)).toNatClampNeg) (xS ((x3 + 2)).toNatClampNeg) (xS ((x3 + 3)).toNatClampNeg) (xS ((x3 + 4)).toNatClampNeg) (fun (s644 : St) (r643 : Int64) => w_X4_replay s644 (xS ((x3 + 1)).toNatClampNeg) (xS ((x3 + 2)).toNatClampNeg) (xS ((x3 + 3)).toNatClampNeg) (xS ((x3 + 4)).toNatClampNeg) (fun (s652 : St) (r651 : Int64) => ((r643 = r651) → w_L_law_b1537 LS xS Φ (w_L_law_l18 LS xS Φ E1015 E1028 E1051 E1085 E1118 E1141 E1164 E1177 E1200 E1213 E1236 E1290 E1333 E1406 E1440 E1463 E1476 E1489 E1512 E1535 E1543 E233 E256 E289 E342 E375 E418 E441 E474 E507 E550 E584 E638 E702 E736 E769 E813 E836 E880 E914 E948 E992 n) s652 x3) ∧ ((¬ r643 = r651) → E1290 s652)))) ∧ (((xS (x3).toNatClampNeg) &&& 63) = 33 → vp_in (x3 + 1) LS ∧ vp_in (x3 + 2) LS ∧ vp_in (x3 + 3) LS ∧ w_X0_sheet st (xS ((x3 + 1)).toNatClampNeg) (xS ((x3 + 2)).toNatClampNeg) (xS ((x3 + 3)).toNatClampNeg) (fun (s665 : St) (r664 : Int32) => w_X4_sheet s665 (xS ((x3 + 1)).toNatClampNeg) (xS ((x3 + 2)).toNatClampNeg) (xS ((x3 + 3)).toNatClampNeg) (fun (s673 : St) (r672 : Int32) => ((r664 = r672) → w_L_law_b1537 LS xS Φ (w_L_law_l18 LS xS Φ E1015 E1028 E1051 E1085 E1118 E1141 E1164 E1177 E1200 E1213 E1236 E1290 E1333 E1406 E1440 E1463 E1476 E1489 E1512 E1535 E1543 E233 E256 E289 E342 E375 E418 E441 E474 E507 E550 E584 E638 E702 E736 E769 E813 E836 E880 E914 E948 E992 n) s673 x3) ∧ ((¬ r664 = r672) → E1333 s673)))) ∧ (((xS (x3).toNatClampNeg) &&& 63) = 34 → vp_in (x3 + 1) LS ∧ vp_in (x3 + 2) LS ∧ vp_in (x3 + 3) LS ∧ vp_in (x3 + 4) LS ∧ w_X0_put st (xS ((x3 + 1)).toNatClampNeg) (xS ((x3 + 2)).toNatClampNeg) (((xS ((x3 + 3)).toNatClampNeg).toInt64 <<< ((32 : Int32).toInt64 &&& 63)) ||| ((xS ((x3 + 4)).toNatClampNeg).toInt64 &&& 4294967295)) (fun (s687 : St) (r686 : Int32) => w_X4_put s687 (xS ((x3 + 1)).toNatClampNeg) (xS ((x3 + 2)).toNatClampNeg) (((xS ((x3 + 3)).toNatClampNeg).toInt64 <<< ((32 : Int32).toInt64 &&& 63)) ||| ((xS ((x3 + 4)).toNatClampNeg).toInt64 &&& 4294967295)) (fun (s695 : St) (r694 : Int32) => ((r686 = r694) → w_L_law_b1537 LS xS Φ (w_L_law_l18 LS xS Φ E1015 E1028 E1051 E1085 E1118 E1141 E1164 E1177 E1200 E1213 E1236 E1290 E1333 E1406 E1440 E1463 E1476 E1489 E1512 E1535 E1543 E233 E256 E289 E342 E375 E418 E441 E474 E507 E550 E584 E638 E702 E736 E769 E813 E836 E880 E914 E948 E992 n) s695 x3) ∧ ((¬ r686 = r694) → E1406 s695)))) ∧ (((xS (x3).toNatClampNeg) &&& 63) = 35 → vp_in (x3 + 1) LS ∧ vp_in (x3 + 2) LS ∧ w_X0_number st (xS ((x3 + 1)).toNatClampNeg) (xS ((x3 + 2)).toNatClampNeg) (fun (s707 : St) (r706 : Int64) => w_X4_number s707 (xS ((x3 + 1)).toNatClampNeg) (xS ((x3 + 2)).toNatClampNeg) (fun (s715 : St) (r714 : Int64) => ((r706 = r714) → w_L_law_b1537 LS xS Φ (w_L_law_l18 LS xS Φ E1015 E1028 E1051 E1085 E1118 E1141 E1164 E1177 E1200 E1213 E1236 E1290 E1333 E1406 E1440 E1463 E1476 E1489 E1512 E1535 E1543 E233 E256 E289 E342 E375 E418 E441 E474 E507 E550 E584 E638 E702 E736 E769 E813 E836 E880 E914 E948 E992 n) s715 x3) ∧ ((¬ r706 = r714) → E1440 s715)))) ∧ (((xS (x3).toNatClampNeg) &&& 63) = 36 → vp_in (x3 + 1) LS ∧ w_X0_seed st (xS ((x3 + 1)).toNatClampNeg) (fun (s726 : St) (r725 : Int32) => w_X4_seed s726 (xS ((x3 + 1)).toNatClampNeg) (fun (s734 : St) (r733 : Int32) => ((r725 = r733) → w_L_law_b1537 LS xS Φ (w_L_law_l18 LS xS Φ E1015 E1028 E1051 E1085 E1118 E1141 E1164 E1177 E1200 E1213 E1236 E1290 E1333 E1406 E1440 E1463 E1476 E1489 E1512 E1535 E1543 E233 E256 E289 E342 E375 E418 E441 E474 E507 E550 E584 E638 E702 E736 E769 E813 E836 E880 E914 E948 E992 n) s734 x3) ∧ ((¬ r725 = r733) → E1463 s734)))) ∧ (((xS (x3).toNatClampNeg) &&& 63) = 37 → w_X0_image st (fun (s744 : St) (r743 : Int32) => w_X4_image s744 (fun (s752 : St) (r751 : Int32) => ((r743 = r751) → w_L_law_b1537 LS xS Φ (w_L_law_l18 LS xS Φ E1015 E1028 E1051 E1085 E1118 E1141 E1164 E1177 E1200 E1213 E1236 E1290 E1333 E1406 E1440 E1463 E1476 E1489 E1512 E1535 E1543 E233 E256 E289 E342 E375 E418 E441 E474 E507 E550 E584 E638 E702 E736 E769 E813 E836 E880 E914 E948 E992 n) s752 x3) ∧ ((¬ r743 = r751) → E1476 s752)))) ∧ (((xS (x3).toNatClampNeg) &&& 63) = 38 → w_X0_restore st (fun (s762 : St) (r761 : Int32) => w_X4_restore s762 (fun (s770 : St) (r769 : Int32) => ((r761 = r769) → w_L_law_b1537 LS xS Φ (w_L_law_l18 LS xS Φ E1015 E1028 E1051 E1085 E1118 E1141 E1164 E1177 E1200 E1213 E1236 E1290 E1333 E1406 E1440 E1463 E1476 E1489 E1512 E1535 E1543 E233 E256 E289 E342 E375 E418 E441 E474 E507 E550 E584 E638 E702 E736 E769 E813 E836 E880 E914 E948 E992 n) s770 x3) ∧ ((¬ r761 = r769) → E1489 s770)))) ∧ (((xS (x3).toNatClampNeg) &&& 63) = 39 → vp_in (x3 + 1) LS ∧ w_X0_count st (xS ((x3 + 1)).toNatClampNeg) (fun (s781 : St) (r780 : Int32) => w_X4_count s781 (xS ((x3 + 1)).toNatClampNeg) (fun (s789 : St) (r788 : Int32) => ((r780 = r788) → w_L_law_b1537 LS xS Φ (w_L_law_l18 LS xS Φ E1015 E1028 E1051 E1085 E1118 E1141 E1164 E1177 E1200 E1213 E1236 E1290 E1333 E1406 E1440 E1463 E1476 E1489 E1512 E1535 E1543 E233 E256 E289 E342 E375 E418 E441 E474 E507 E550 E584 E638 E702 E736 E769 E813 E836 E880 E914 E948 E992 n) s789 x3) ∧ ((¬ r780 = r788) → E1512 s789)))) ∧ (((xS (x3).toNatClampNeg) &&& 63) = 40 → vp_in (x3 + 1) LS ∧ w_X0_told st (xS ((x3 + 1)).toNatClampNeg) (fun (s800 : St) (r799 : Int32) => w_X4_told s800 (xS ((x3 + 1)).toNatClampNeg) (fun (s808 : St) (r807 : Int32) => ((r799 = r807) → w_L_law_b1537 LS xS Φ (w_L_law_l18 LS xS Φ E1015 E1028 E1051 E1085 E1118 E1141 E1164 E1177 E1200 E1213 E1236 E1290 E1333 E1406 E1440 E1463 E1476 E1489 E1512 E1535 E1543 E233 E256 E289 E342 E375 E418 E441 E474 E507 E550 E584 E638 E702 E736 E769 E813 E836 E880 E914 E948 E992 n) s808 x3) ∧ ((¬ r799 = r807) → E1535 s808)))) ∧ (((xS (x3).toNatClampNeg) &&& 63).toInt < 0 ∨ 40 < ((xS (x3).toNatClampNeg) &&& 63).toInt → w_L_law_b1537 LS xS Φ (w_L_law_l18 LS xS Φ E1015 E1028 E1051 E1085 E1118 E1141 E1164 E1177 E1200 E1213 E1236 E1290 E1333 E1406 E1440 E1463 E1476 E1489 E1512 E1535 E1543 E233 E256 E289 E342 E375 E418 E441 E474 E507 E550 E584 E638 E702 E736 E769 E813 E836 E880 E914 E948 E992 n) st x3))
theorem t_L_law_l18 {θ : Th} {κ : Kx} {Ph : Ph} (hX : LX θ) {bS LS : Nat} {xS : Nat → Int32} (hSc : SCR θ κ bS LS xS) {d : Nat} (hd : 28 ≤ d) (C : Cx θ κ yL_law cL_law 4 (some Jvm.ClassFile.FieldType.boolean) [] d) {Φ : St → Int32 → Prop} (hn : ∀ st r, Φ st r → Ph.1 st (some (.int r))) {E1015 : St → Prop} {E1028 : St → Prop} {E1051 : St → Prop} {E1085 : St → Prop} {E1118 : St → Prop} {E1141 : St → Prop} {E1164 : St → Prop} {E1177 : St → Prop} {E1200 : St → Prop} {E1213 : St → Prop} {E1236 : St → Prop} {E1290 : St → Prop} {E1333 : St → Prop} {E1406 : St → Prop} {E1440 : St → Prop} {E1463 : St → Prop} {E1476 : St → Prop} {E1489 : St → Prop} {E1512 : St → Prop} {E1535 : St → Prop} {E1543 : St → Prop} {E233 : St → Prop} {E256 : St → Prop} {E289 : St → Prop} {E342 : St → Prop} {E375 : St → Prop} {E418 : St → Prop} {E441 : St → Prop} {E474 : St → Prop} {E507 : St → Prop} {E550 : St → Prop} {E584 : St → Prop} {E638 : St → Prop} {E702 : St → Prop} {E736 : St → Prop} {E769 : St → Prop} {E813 : St → Prop} {E836 : St → Prop} {E880 : St → Prop} {E914 : St → Prop} {E948 : St → Prop} {E992 : St → Prop} (hE1015 : ∀ (st : St), E1015 st → X θ κ Ph st 1015 [] []) (hE1028 : ∀ (st : St), E1028 st → X θ κ Ph st 1028 [] []) (hE1051 : ∀ (st : St), E1051 st → X θ κ Ph st 1051 [] []) (hE1085 : ∀ (st : St), E1085 st → X θ κ Ph st 1085 [] []) (hE1118 : ∀ (st : St), E1118 st → X θ κ Ph st 1118 [] []) (hE1141 : ∀ (st : St), E1141 st → X θ κ Ph st 1141 [] []) (hE1164 : ∀ (st : St), E1164 st → X θ κ Ph st 1164 [] []) (hE1177 : ∀ (st : St), E1177 st → X θ κ Ph st 1177 [] []) (hE1200 : ∀ (st : St), E1200 st → X θ κ Ph st 1200 [] []) (hE1213 : ∀ (st : St), E1213 st → X θ κ Ph st 1213 [] []) (hE1236 : ∀ (st : St), E1236 st → X θ κ Ph st 1236 [] []) (hE1290 : ∀ (st : St), E1290 st → X θ κ Ph st 1290 [] []) (hE1333 : ∀ (st : St), E1333 st → X θ κ Ph st 1333 [] []) (hE1406 : ∀ (st : St), E1406 st → X θ κ Ph st 1406 [] []) (hE1440 : ∀ (st : St), E1440 st → X θ κ Ph st 1440 [] []) (hE1463 : ∀ (st : St), E1463 st → X θ κ Ph st 1463 [] []) (hE1476 : ∀ (st : St), E1476 st → X θ κ Ph st 1476 [] []) (hE1489 : ∀ (st : St), E1489 st → X θ κ Ph st 1489 [] []) (hE1512 : ∀ (st : St), E1512 st → X θ κ Ph st 1512 [] []) (hE1535 : ∀ (st : St), E1535 st → X θ κ Ph st 1535 [] []) (hE1543 : ∀ (st : St), E1543 st → X θ κ Ph st 1543 [] []) (hE233 : ∀ (st : St), E233 st → X θ κ Ph st 233 [] []) (hE256 : ∀ (st : St), E256 st → X θ κ Ph st 256 [] []) (hE289 : ∀ (st : St), E289 st → X θ κ Ph st 289 [] []) (hE342 : ∀ (st : St), E342 st → X θ κ Ph st 342 [] []) (hE375 : ∀ (st : St), E375 st → X θ κ Ph st 375 [] []) (hE418 : ∀ (st : St), E418 st → X θ κ Ph st 418 [] []) (hE441 : ∀ (st : St), E441 st → X θ κ Ph st 441 [] []) (hE474 : ∀ (st : St), E474 st → X θ κ Ph st 474 [] []) (hE507 : ∀ (st : St), E507 st → X θ κ Ph st 507 [] []) (hE550 : ∀ (st : St), E550 st → X θ κ Ph st 550 [] []) (hE584 : ∀ (st : St), E584 st → X θ κ Ph st 584 [] []) (hE638 : ∀ (st : St), E638 st → X θ κ Ph st 638 [] []) (hE702 : ∀ (st : St), E702 st → X θ κ Ph st 702 [] []) (hE736 : ∀ (st : St), E736 st → X θ κ Ph st 736 [] []) (hE769 : ∀ (st : St), E769 st → X θ κ Ph st 769 [] []) (hE813 : ∀ (st : St), E813 st → X θ κ Ph st 813 [] []) (hE836 : ∀ (st : St), E836 st → X θ κ Ph st 836 [] []) (hE880 : ∀ (st : St), E880 st → X θ κ Ph st 880 [] []) (hE914 : ∀ (st : St), E914 st → X θ κ Ph st 914 [] []) (hE948 : ∀ (st : St), E948 st → X θ κ Ph st 948 [] []) (hE992 : ∀ (st : St), E992 st → X θ κ Ph st 992 [] []) : ∀ (n : Nat) (st : St) (x3 : Int32), w_L_law_l18 LS xS Φ E1015 E1028 E1051 E1085 E1118 E1141 E1164 E1177 E1200 E1213 E1236 E1290 E1333 E1406 E1440 E1463 E1476 E1489 E1512 E1535 E1543 E233 E256 E289 E342 E375 E418 E441 E474 E507 E550 E584 E638 E702 E736 E769 E813 E836 E880 E914 E948 E992 n st x3 → X θ κ Ph st 18 [(0, .ref bS), (1, .ref (ad θ 0)), (2, .ref (ad θ 175)), (3, .int x3)] [] := by
  intro n
  induction n with
  | zero => intro st x3 h; exact h.elim
  | succ n hK18 =>
    intro st x3 h
    rw [w_L_law_l18] at h
    refine X_iload_n C dL_law_18 rfl 3 rfl ?_
    refine X_aload_n C dL_law_19 rfl 0 rfl (isRV_r _) ?_
    refine X_alenC C hSc rfl dL_law_20 ?_
    refine X_bipush (v := 6) C dL_law_21 rfl ?_
    refine X_isub C dL_law_23 ?_
    refine X_icmp_gt (tgt := 1543) C dL_law_24 (by decide) (fun c1 => ?_) (fun c1 => ?_)
    · have h := h.1 c1
      refine X_sub [] (lo2 := []) rfl ?_
      exact hE1543 st h
    · have h := h.2 c1
      refine X_aload_n C dL_law_27 rfl 0 rfl (isRV_r _) ?_
      refine X_iload_n C dL_law_28 rfl 3 rfl ?_
      have g2 := h.1
      have h := h.2
      refine X_ialdC C hSc g2 dL_law_29 ?_
      refine X_bipush (v := 63) C dL_law_30 rfl ?_
      refine X_iand C dL_law_32 ?_
      by_cases c21 : ((xS (x3).toNatClampNeg) &&& 63) = 0
      · have h := h.1 c21
        refine X_tableIn (tgt := 212) C dL_law_33 (by rw [c21]; decide) (by rw [c21]; decide) (off := 179) (by rw [c21]; rfl) (by decide) ?_
        refine X_aload_n C dL_law_212 rfl 1 rfl (isRV_r _) ?_
        refine X_aload_n C dL_law_213 rfl 0 rfl (isRV_r _) ?_
        refine X_iload_n C dL_law_214 rfl 3 rfl ?_
        refine X_iconst (v := 1) C dL_law_215 rfl ?_
        refine X_iadd C dL_law_216 ?_
        have g3 := h.1
        have h := h.2
        refine X_ialdC C hSc g3 dL_law_217 ?_
        refine X_callVXS (ci := 0) (q := (RX0, TX0, 49)) (As := [_]) (rest := []) C rfl (LX_S hX (k := 0) rfl) q408 q409 q410 q132 q411 ⟨rfl, nm_X0_states⟩ rfl dL_law_218 (m_X0_states (Cx_l C) hX (d := d - 1) (by omega) st (xS ((x3 + 1)).toNatClampNeg) h) (by omega) (by decide) (Nat.le_of_ble_eq_true rfl) (fun s5 w6 hE7 hP8 => ?_) (fun s11 E9 q10 hE7 hP8 => ?_)
        rotate_left
        · exact False.elim hP8
        obtain ⟨r4, rfl, h⟩ := hP8
        refine X_tls ?_
        refine X_aload_n C dL_law_221 rfl 2 rfl (isRV_r _) ?_
        refine X_aload_n C dL_law_222 rfl 0 rfl (isRV_r _) ?_
        refine X_iload_n C dL_law_223 rfl 3 rfl ?_
        refine X_iconst (v := 1) C dL_law_224 rfl ?_
        refine X_iadd C dL_law_225 ?_
        refine X_ialdC C hSc g3 dL_law_226 ?_
        refine X_callVS (ci := 4) (q := (RX4, TX4, 54)) (As := [_]) (rest := [_]) C rfl (LX_S hX (k := 175) rfl) q1930 q1931 q1932 q136 q1933 ⟨rfl, nm_X4_states⟩ rfl dL_law_227 (m_X4_states (Cx_l C) hX (d := d - 1) (by omega) s5 (xS ((x3 + 1)).toNatClampNeg) h) (by omega) (by decide) (Nat.le_of_ble_eq_true rfl) (fun s13 w14 hE15 hP16 => ?_) (fun s19 E17 q18 hE15 hP16 => ?_)
        rotate_left
        · exact False.elim hP16
        obtain ⟨r12, rfl, h⟩ := hP16
        refine X_tls ?_
        refine X_icmp_eq (tgt := 1537) C dL_law_230 (by decide) (fun c20 => ?_) (fun c20 => ?_)
        · have h := h.1 c20
          exact t_L_law_b1537 hX hSc hd C hn hK18 s13 x3 h
        · have h := h.2 c20
          refine X_sub [] (lo2 := []) rfl ?_
          exact hE233 s13 h
      have h := h.2
      by_cases c40 : ((xS (x3).toNatClampNeg) &&& 63) = 1
      · have h := h.1 c40
        refine X_tableIn (tgt := 235) C dL_law_33 (by rw [c40]; decide) (by rw [c40]; decide) (off := 202) (by rw [c40]; rfl) (by decide) ?_
        refine X_aload_n C dL_law_235 rfl 1 rfl (isRV_r _) ?_
        refine X_aload_n C dL_law_236 rfl 0 rfl (isRV_r _) ?_
        refine X_iload_n C dL_law_237 rfl 3 rfl ?_
        refine X_iconst (v := 1) C dL_law_238 rfl ?_
        refine X_iadd C dL_law_239 ?_
        have g22 := h.1
        have h := h.2
        refine X_ialdC C hSc g22 dL_law_240 ?_
        refine X_callVXS (ci := 0) (q := (RX0, TX0, 49)) (As := [_]) (rest := []) C rfl (LX_S hX (k := 0) rfl) q517 q518 q519 q132 q520 ⟨rfl, nm_X0_parts⟩ rfl dL_law_241 (m_X0_parts (Cx_l C) hX (d := d - 1) (by omega) st (xS ((x3 + 1)).toNatClampNeg) h) (by omega) (by decide) (Nat.le_of_ble_eq_true rfl) (fun s24 w25 hE26 hP27 => ?_) (fun s30 E28 q29 hE26 hP27 => ?_)
        rotate_left
        · exact False.elim hP27
        obtain ⟨r23, rfl, h⟩ := hP27
        refine X_tls ?_
        refine X_aload_n C dL_law_244 rfl 2 rfl (isRV_r _) ?_
        refine X_aload_n C dL_law_245 rfl 0 rfl (isRV_r _) ?_
        refine X_iload_n C dL_law_246 rfl 3 rfl ?_
        refine X_iconst (v := 1) C dL_law_247 rfl ?_
        refine X_iadd C dL_law_248 ?_
        refine X_ialdC C hSc g22 dL_law_249 ?_
        refine X_callVS (ci := 4) (q := (RX4, TX4, 54)) (As := [_]) (rest := [_]) C rfl (LX_S hX (k := 175) rfl) q1948 q1949 q1950 q136 q1951 ⟨rfl, nm_X4_parts⟩ rfl dL_law_250 (m_X4_parts (Cx_l C) hX (d := d - 1) (by omega) s24 (xS ((x3 + 1)).toNatClampNeg) h) (by omega) (by decide) (Nat.le_of_ble_eq_true rfl) (fun s32 w33 hE34 hP35 => ?_) (fun s38 E36 q37 hE34 hP35 => ?_)
        rotate_left
        · exact False.elim hP35
        obtain ⟨r31, rfl, h⟩ := hP35
        refine X_tls ?_
        refine X_icmp_eq (tgt := 1537) C dL_law_253 (by decide) (fun c39 => ?_) (fun c39 => ?_)
        · have h := h.1 c39
          exact t_L_law_b1537 hX hSc hd C hn hK18 s32 x3 h
        · have h := h.2 c39
          refine X_sub [] (lo2 := []) rfl ?_
          exact hE256 s32 h
      have h := h.2
      by_cases c60 : ((xS (x3).toNatClampNeg) &&& 63) = 2
      · have h := h.1 c60
        refine X_tableIn (tgt := 258) C dL_law_33 (by rw [c60]; decide) (by rw [c60]; decide) (off := 225) (by rw [c60]; rfl) (by decide) ?_
        refine X_aload_n C dL_law_258 rfl 1 rfl (isRV_r _) ?_
        refine X_aload_n C dL_law_259 rfl 0 rfl (isRV_r _) ?_
        refine X_iload_n C dL_law_260 rfl 3 rfl ?_
        refine X_iconst (v := 1) C dL_law_261 rfl ?_
        refine X_iadd C dL_law_262 ?_
        have g41 := h.1
        have h := h.2
        refine X_ialdC C hSc g41 dL_law_263 ?_
        refine X_aload_n C dL_law_264 rfl 0 rfl (isRV_r _) ?_
        refine X_iload_n C dL_law_265 rfl 3 rfl ?_
        refine X_iconst (v := 2) C dL_law_266 rfl ?_
        refine X_iadd C dL_law_267 ?_
        have g42 := h.1
        have h := h.2
        refine X_ialdC C hSc g42 dL_law_268 ?_
        refine X_callVXS (ci := 0) (q := (RX0, TX0, 49)) (As := [_, _]) (rest := []) C rfl (LX_S hX (k := 0) rfl) q526 q527 q528 q132 q529 ⟨rfl, nm_X0_size⟩ rfl dL_law_269 (m_X0_size (Cx_l C) hX (d := d - 1) (by omega) st (xS ((x3 + 1)).toNatClampNeg) (xS ((x3 + 2)).toNatClampNeg) h) (by omega) (by decide) (Nat.le_of_ble_eq_true rfl) (fun s44 w45 hE46 hP47 => ?_) (fun s50 E48 q49 hE46 hP47 => ?_)
        rotate_left
        · exact False.elim hP47
        obtain ⟨r43, rfl, h⟩ := hP47
        refine X_tls ?_
        refine X_aload_n C dL_law_272 rfl 2 rfl (isRV_r _) ?_
        refine X_aload_n C dL_law_273 rfl 0 rfl (isRV_r _) ?_
        refine X_iload_n C dL_law_274 rfl 3 rfl ?_
        refine X_iconst (v := 1) C dL_law_275 rfl ?_
        refine X_iadd C dL_law_276 ?_
        refine X_ialdC C hSc g41 dL_law_277 ?_
        refine X_aload_n C dL_law_278 rfl 0 rfl (isRV_r _) ?_
        refine X_iload_n C dL_law_279 rfl 3 rfl ?_
        refine X_iconst (v := 2) C dL_law_280 rfl ?_
        refine X_iadd C dL_law_281 ?_
        refine X_ialdC C hSc g42 dL_law_282 ?_
        refine X_callVS (ci := 4) (q := (RX4, TX4, 54)) (As := [_, _]) (rest := [_]) C rfl (LX_S hX (k := 175) rfl) q1953 q1954 q1955 q136 q1956 ⟨rfl, nm_X4_size⟩ rfl dL_law_283 (m_X4_size (Cx_l C) hX (d := d - 1) (by omega) s44 (xS ((x3 + 1)).toNatClampNeg) (xS ((x3 + 2)).toNatClampNeg) h) (by omega) (by decide) (Nat.le_of_ble_eq_true rfl) (fun s52 w53 hE54 hP55 => ?_) (fun s58 E56 q57 hE54 hP55 => ?_)
        rotate_left
        · exact False.elim hP55
        obtain ⟨r51, rfl, h⟩ := hP55
        refine X_tls ?_
        refine X_icmp_eq (tgt := 1537) C dL_law_286 (by decide) (fun c59 => ?_) (fun c59 => ?_)
        · have h := h.1 c59
          exact t_L_law_b1537 hX hSc hd C hn hK18 s52 x3 h
        · have h := h.2 c59
          refine X_sub [] (lo2 := []) rfl ?_
          exact hE289 s52 h
      have h := h.2
      by_cases c82 : ((xS (x3).toNatClampNeg) &&& 63) = 3
      · have h := h.1 c82
        refine X_tableIn (tgt := 291) C dL_law_33 (by rw [c82]; decide) (by rw [c82]; decide) (off := 258) (by rw [c82]; rfl) (by decide) ?_
        refine X_aload_n C dL_law_291 rfl 1 rfl (isRV_r _) ?_
        refine X_aload_n C dL_law_292 rfl 0 rfl (isRV_r _) ?_
        refine X_iload_n C dL_law_293 rfl 3 rfl ?_
        refine X_iconst (v := 1) C dL_law_294 rfl ?_
        refine X_iadd C dL_law_295 ?_
        have g61 := h.1
        have h := h.2
        refine X_ialdC C hSc g61 dL_law_296 ?_
        refine X_aload_n C dL_law_297 rfl 0 rfl (isRV_r _) ?_
        refine X_iload_n C dL_law_298 rfl 3 rfl ?_
        refine X_iconst (v := 2) C dL_law_299 rfl ?_
        refine X_iadd C dL_law_300 ?_
        have g62 := h.1
        have h := h.2
        refine X_ialdC C hSc g62 dL_law_301 ?_
        refine X_aload_n C dL_law_302 rfl 0 rfl (isRV_r _) ?_
        refine X_iload_n C dL_law_303 rfl 3 rfl ?_
        refine X_iconst (v := 3) C dL_law_304 rfl ?_
        refine X_iadd C dL_law_305 ?_
        have g63 := h.1
        have h := h.2
        refine X_ialdC C hSc g63 dL_law_306 ?_
        refine X_aload_n C dL_law_307 rfl 0 rfl (isRV_r _) ?_
        refine X_iload_n C dL_law_308 rfl 3 rfl ?_
        refine X_iconst (v := 4) C dL_law_309 rfl ?_
        refine X_iadd C dL_law_310 ?_
        have g64 := h.1
        have h := h.2
        refine X_ialdC C hSc g64 dL_law_311 ?_
        refine X_callVXS (ci := 0) (q := (RX0, TX0, 49)) (As := [_, _, _, _]) (rest := []) C rfl (LX_S hX (k := 0) rfl) q530 q531 q532 q132 q533 ⟨rfl, nm_X0_cell⟩ rfl dL_law_312 (m_X0_cell (Cx_l C) hX (d := d - 1) (by omega) st (xS ((x3 + 1)).toNatClampNeg) (xS ((x3 + 2)).toNatClampNeg) (xS ((x3 + 3)).toNatClampNeg) (xS ((x3 + 4)).toNatClampNeg) h) (by omega) (by decide) (Nat.le_of_ble_eq_true rfl) (fun s66 w67 hE68 hP69 => ?_) (fun s72 E70 q71 hE68 hP69 => ?_)
        rotate_left
        · exact False.elim hP69
        obtain ⟨r65, rfl, h⟩ := hP69
        refine X_tls ?_
        refine X_aload_n C dL_law_315 rfl 2 rfl (isRV_r _) ?_
        refine X_aload_n C dL_law_316 rfl 0 rfl (isRV_r _) ?_
        refine X_iload_n C dL_law_317 rfl 3 rfl ?_
        refine X_iconst (v := 1) C dL_law_318 rfl ?_
        refine X_iadd C dL_law_319 ?_
        refine X_ialdC C hSc g61 dL_law_320 ?_
        refine X_aload_n C dL_law_321 rfl 0 rfl (isRV_r _) ?_
        refine X_iload_n C dL_law_322 rfl 3 rfl ?_
        refine X_iconst (v := 2) C dL_law_323 rfl ?_
        refine X_iadd C dL_law_324 ?_
        refine X_ialdC C hSc g62 dL_law_325 ?_
        refine X_aload_n C dL_law_326 rfl 0 rfl (isRV_r _) ?_
        refine X_iload_n C dL_law_327 rfl 3 rfl ?_
        refine X_iconst (v := 3) C dL_law_328 rfl ?_
        refine X_iadd C dL_law_329 ?_
        refine X_ialdC C hSc g63 dL_law_330 ?_
        refine X_aload_n C dL_law_331 rfl 0 rfl (isRV_r _) ?_
        refine X_iload_n C dL_law_332 rfl 3 rfl ?_
        refine X_iconst (v := 4) C dL_law_333 rfl ?_
        refine X_iadd C dL_law_334 ?_
        refine X_ialdC C hSc g64 dL_law_335 ?_
        refine X_callVS (ci := 4) (q := (RX4, TX4, 54)) (As := [_, _, _, _]) (rest := [_]) C rfl (LX_S hX (k := 175) rfl) q1957 q1958 q1959 q136 q1960 ⟨rfl, nm_X4_cell⟩ rfl dL_law_336 (m_X4_cell (Cx_l C) hX (d := d - 1) (by omega) s66 (xS ((x3 + 1)).toNatClampNeg) (xS ((x3 + 2)).toNatClampNeg) (xS ((x3 + 3)).toNatClampNeg) (xS ((x3 + 4)).toNatClampNeg) h) (by omega) (by decide) (Nat.le_of_ble_eq_true rfl) (fun s74 w75 hE76 hP77 => ?_) (fun s80 E78 q79 hE76 hP77 => ?_)
        rotate_left
        · exact False.elim hP77
        obtain ⟨r73, rfl, h⟩ := hP77
        refine X_tls ?_
        refine X_icmp_eq (tgt := 1537) C dL_law_339 (by decide) (fun c81 => ?_) (fun c81 => ?_)
        · have h := h.1 c81
          exact t_L_law_b1537 hX hSc hd C hn hK18 s74 x3 h
        · have h := h.2 c81
          refine X_sub [] (lo2 := []) rfl ?_
          exact hE342 s74 h
      have h := h.2
      by_cases c102 : ((xS (x3).toNatClampNeg) &&& 63) = 4
      · have h := h.1 c102
        refine X_tableIn (tgt := 344) C dL_law_33 (by rw [c102]; decide) (by rw [c102]; decide) (off := 311) (by rw [c102]; rfl) (by decide) ?_
        refine X_aload_n C dL_law_344 rfl 1 rfl (isRV_r _) ?_
        refine X_aload_n C dL_law_345 rfl 0 rfl (isRV_r _) ?_
        refine X_iload_n C dL_law_346 rfl 3 rfl ?_
        refine X_iconst (v := 1) C dL_law_347 rfl ?_
        refine X_iadd C dL_law_348 ?_
        have g83 := h.1
        have h := h.2
        refine X_ialdC C hSc g83 dL_law_349 ?_
        refine X_aload_n C dL_law_350 rfl 0 rfl (isRV_r _) ?_
        refine X_iload_n C dL_law_351 rfl 3 rfl ?_
        refine X_iconst (v := 2) C dL_law_352 rfl ?_
        refine X_iadd C dL_law_353 ?_
        have g84 := h.1
        have h := h.2
        refine X_ialdC C hSc g84 dL_law_354 ?_
        refine X_callVXS (ci := 0) (q := (RX0, TX0, 49)) (As := [_, _]) (rest := []) C rfl (LX_S hX (k := 0) rfl) q539 q540 q541 q132 q542 ⟨rfl, nm_X0_lays⟩ rfl dL_law_355 (m_X0_lays (Cx_l C) hX (d := d - 1) (by omega) st (xS ((x3 + 1)).toNatClampNeg) (xS ((x3 + 2)).toNatClampNeg) h) (by omega) (by decide) (Nat.le_of_ble_eq_true rfl) (fun s86 w87 hE88 hP89 => ?_) (fun s92 E90 q91 hE88 hP89 => ?_)
        rotate_left
        · exact False.elim hP89
        obtain ⟨r85, rfl, h⟩ := hP89
        refine X_tls ?_
        refine X_aload_n C dL_law_358 rfl 2 rfl (isRV_r _) ?_
        refine X_aload_n C dL_law_359 rfl 0 rfl (isRV_r _) ?_
        refine X_iload_n C dL_law_360 rfl 3 rfl ?_
        refine X_iconst (v := 1) C dL_law_361 rfl ?_
        refine X_iadd C dL_law_362 ?_
        refine X_ialdC C hSc g83 dL_law_363 ?_
        refine X_aload_n C dL_law_364 rfl 0 rfl (isRV_r _) ?_
        refine X_iload_n C dL_law_365 rfl 3 rfl ?_
        refine X_iconst (v := 2) C dL_law_366 rfl ?_
        refine X_iadd C dL_law_367 ?_
        refine X_ialdC C hSc g84 dL_law_368 ?_
        refine X_callVS (ci := 4) (q := (RX4, TX4, 54)) (As := [_, _]) (rest := [_]) C rfl (LX_S hX (k := 175) rfl) q1969 q1970 q1971 q136 q1972 ⟨rfl, nm_X4_lays⟩ rfl dL_law_369 (m_X4_lays (Cx_l C) hX (d := d - 1) (by omega) s86 (xS ((x3 + 1)).toNatClampNeg) (xS ((x3 + 2)).toNatClampNeg) h) (by omega) (by decide) (Nat.le_of_ble_eq_true rfl) (fun s94 w95 hE96 hP97 => ?_) (fun s100 E98 q99 hE96 hP97 => ?_)
        rotate_left
        · exact False.elim hP97
        obtain ⟨r93, rfl, h⟩ := hP97
        refine X_tls ?_
        refine X_icmp_eq (tgt := 1537) C dL_law_372 (by decide) (fun c101 => ?_) (fun c101 => ?_)
        · have h := h.1 c101
          exact t_L_law_b1537 hX hSc hd C hn hK18 s94 x3 h
        · have h := h.2 c101
          refine X_sub [] (lo2 := []) rfl ?_
          exact hE375 s94 h
      have h := h.2
      by_cases c123 : ((xS (x3).toNatClampNeg) &&& 63) = 5
      · have h := h.1 c123
        refine X_tableIn (tgt := 377) C dL_law_33 (by rw [c123]; decide) (by rw [c123]; decide) (off := 344) (by rw [c123]; rfl) (by decide) ?_
        refine X_aload_n C dL_law_377 rfl 1 rfl (isRV_r _) ?_
        refine X_aload_n C dL_law_378 rfl 0 rfl (isRV_r _) ?_
        refine X_iload_n C dL_law_379 rfl 3 rfl ?_
        refine X_iconst (v := 1) C dL_law_380 rfl ?_
        refine X_iadd C dL_law_381 ?_
        have g103 := h.1
        have h := h.2
        refine X_ialdC C hSc g103 dL_law_382 ?_
        refine X_aload_n C dL_law_383 rfl 0 rfl (isRV_r _) ?_
        refine X_iload_n C dL_law_384 rfl 3 rfl ?_
        refine X_iconst (v := 2) C dL_law_385 rfl ?_
        refine X_iadd C dL_law_386 ?_
        have g104 := h.1
        have h := h.2
        refine X_ialdC C hSc g104 dL_law_387 ?_
        refine X_aload_n C dL_law_388 rfl 0 rfl (isRV_r _) ?_
        refine X_iload_n C dL_law_389 rfl 3 rfl ?_
        refine X_iconst (v := 3) C dL_law_390 rfl ?_
        refine X_iadd C dL_law_391 ?_
        have g105 := h.1
        have h := h.2
        refine X_ialdC C hSc g105 dL_law_392 ?_
        refine X_callVXS (ci := 0) (q := (RX0, TX0, 49)) (As := [_, _, _]) (rest := []) C rfl (LX_S hX (k := 0) rfl) q611 q612 q613 q132 q614 ⟨rfl, nm_X0_look⟩ rfl dL_law_393 (m_X0_look (Cx_l C) hX (d := d - 1) (by omega) st (xS ((x3 + 1)).toNatClampNeg) (xS ((x3 + 2)).toNatClampNeg) (xS ((x3 + 3)).toNatClampNeg) h) (by omega) (by decide) (Nat.le_of_ble_eq_true rfl) (fun s107 w108 hE109 hP110 => ?_) (fun s113 E111 q112 hE109 hP110 => ?_)
        rotate_left
        · exact False.elim hP110
        obtain ⟨r106, rfl, h⟩ := hP110
        refine X_tls ?_
        refine X_aload_n C dL_law_396 rfl 2 rfl (isRV_r _) ?_
        refine X_aload_n C dL_law_397 rfl 0 rfl (isRV_r _) ?_
        refine X_iload_n C dL_law_398 rfl 3 rfl ?_
        refine X_iconst (v := 1) C dL_law_399 rfl ?_
        refine X_iadd C dL_law_400 ?_
        refine X_ialdC C hSc g103 dL_law_401 ?_
        refine X_aload_n C dL_law_402 rfl 0 rfl (isRV_r _) ?_
        refine X_iload_n C dL_law_403 rfl 3 rfl ?_
        refine X_iconst (v := 2) C dL_law_404 rfl ?_
        refine X_iadd C dL_law_405 ?_
        refine X_ialdC C hSc g104 dL_law_406 ?_
        refine X_aload_n C dL_law_407 rfl 0 rfl (isRV_r _) ?_
        refine X_iload_n C dL_law_408 rfl 3 rfl ?_
        refine X_iconst (v := 3) C dL_law_409 rfl ?_
        refine X_iadd C dL_law_410 ?_
        refine X_ialdC C hSc g105 dL_law_411 ?_
        refine X_callVS (ci := 4) (q := (RX4, TX4, 54)) (As := [_, _, _]) (rest := [_]) C rfl (LX_S hX (k := 175) rfl) q1984 q1985 q1986 q136 q1987 ⟨rfl, nm_X4_look⟩ rfl dL_law_412 (m_X4_look (Cx_l C) hX (d := d - 1) (by omega) s107 (xS ((x3 + 1)).toNatClampNeg) (xS ((x3 + 2)).toNatClampNeg) (xS ((x3 + 3)).toNatClampNeg) h) (by omega) (by decide) (Nat.le_of_ble_eq_true rfl) (fun s115 w116 hE117 hP118 => ?_) (fun s121 E119 q120 hE117 hP118 => ?_)
        rotate_left
        · exact False.elim hP118
        obtain ⟨r114, rfl, h⟩ := hP118
        refine X_tls ?_
        refine X_icmp_eq (tgt := 1537) C dL_law_415 (by decide) (fun c122 => ?_) (fun c122 => ?_)
        · have h := h.1 c122
          exact t_L_law_b1537 hX hSc hd C hn hK18 s115 x3 h
        · have h := h.2 c122
          refine X_sub [] (lo2 := []) rfl ?_
          exact hE418 s115 h
      have h := h.2
      by_cases c142 : ((xS (x3).toNatClampNeg) &&& 63) = 6
      · have h := h.1 c142
        refine X_tableIn (tgt := 420) C dL_law_33 (by rw [c142]; decide) (by rw [c142]; decide) (off := 387) (by rw [c142]; rfl) (by decide) ?_
        refine X_aload_n C dL_law_420 rfl 1 rfl (isRV_r _) ?_
        refine X_aload_n C dL_law_421 rfl 0 rfl (isRV_r _) ?_
        refine X_iload_n C dL_law_422 rfl 3 rfl ?_
        refine X_iconst (v := 1) C dL_law_423 rfl ?_
        refine X_iadd C dL_law_424 ?_
        have g124 := h.1
        have h := h.2
        refine X_ialdC C hSc g124 dL_law_425 ?_
        refine X_callVXS (ci := 0) (q := (RX0, TX0, 49)) (As := [_]) (rest := []) C rfl (LX_S hX (k := 0) rfl) q615 q616 q617 q132 q618 ⟨rfl, nm_X0_prior⟩ rfl dL_law_426 (m_X0_prior (Cx_l C) hX (d := d - 1) (by omega) st (xS ((x3 + 1)).toNatClampNeg) h) (by omega) (by decide) (Nat.le_of_ble_eq_true rfl) (fun s126 w127 hE128 hP129 => ?_) (fun s132 E130 q131 hE128 hP129 => ?_)
        rotate_left
        · exact False.elim hP129
        obtain ⟨r125, rfl, h⟩ := hP129
        refine X_tls ?_
        refine X_aload_n C dL_law_429 rfl 2 rfl (isRV_r _) ?_
        refine X_aload_n C dL_law_430 rfl 0 rfl (isRV_r _) ?_
        refine X_iload_n C dL_law_431 rfl 3 rfl ?_
        refine X_iconst (v := 1) C dL_law_432 rfl ?_
        refine X_iadd C dL_law_433 ?_
        refine X_ialdC C hSc g124 dL_law_434 ?_
        refine X_callVS (ci := 4) (q := (RX4, TX4, 54)) (As := [_]) (rest := [_]) C rfl (LX_S hX (k := 175) rfl) q1988 q1989 q1990 q136 q1991 ⟨rfl, nm_X4_prior⟩ rfl dL_law_435 (m_X4_prior (Cx_l C) hX (d := d - 1) (by omega) s126 (xS ((x3 + 1)).toNatClampNeg) h) (by omega) (by decide) (Nat.le_of_ble_eq_true rfl) (fun s134 w135 hE136 hP137 => ?_) (fun s140 E138 q139 hE136 hP137 => ?_)
        rotate_left
        · exact False.elim hP137
        obtain ⟨r133, rfl, h⟩ := hP137
        refine X_tls ?_
        refine X_icmp_eq (tgt := 1537) C dL_law_438 (by decide) (fun c141 => ?_) (fun c141 => ?_)
        · have h := h.1 c141
          exact t_L_law_b1537 hX hSc hd C hn hK18 s134 x3 h
        · have h := h.2 c141
          refine X_sub [] (lo2 := []) rfl ?_
          exact hE441 s134 h
      have h := h.2
      by_cases c162 : ((xS (x3).toNatClampNeg) &&& 63) = 7
      · have h := h.1 c162
        refine X_tableIn (tgt := 443) C dL_law_33 (by rw [c162]; decide) (by rw [c162]; decide) (off := 410) (by rw [c162]; rfl) (by decide) ?_
        refine X_aload_n C dL_law_443 rfl 1 rfl (isRV_r _) ?_
        refine X_aload_n C dL_law_444 rfl 0 rfl (isRV_r _) ?_
        refine X_iload_n C dL_law_445 rfl 3 rfl ?_
        refine X_iconst (v := 1) C dL_law_446 rfl ?_
        refine X_iadd C dL_law_447 ?_
        have g143 := h.1
        have h := h.2
        refine X_ialdC C hSc g143 dL_law_448 ?_
        refine X_aload_n C dL_law_449 rfl 0 rfl (isRV_r _) ?_
        refine X_iload_n C dL_law_450 rfl 3 rfl ?_
        refine X_iconst (v := 2) C dL_law_451 rfl ?_
        refine X_iadd C dL_law_452 ?_
        have g144 := h.1
        have h := h.2
        refine X_ialdC C hSc g144 dL_law_453 ?_
        refine X_callVXS (ci := 0) (q := (RX0, TX0, 49)) (As := [_, _]) (rest := []) C rfl (LX_S hX (k := 0) rfl) q624 q625 q626 q132 q627 ⟨rfl, nm_X0_target⟩ rfl dL_law_454 (m_X0_target (Cx_l C) hX (d := d - 1) (by omega) st (xS ((x3 + 1)).toNatClampNeg) (xS ((x3 + 2)).toNatClampNeg) h) (by omega) (by decide) (Nat.le_of_ble_eq_true rfl) (fun s146 w147 hE148 hP149 => ?_) (fun s152 E150 q151 hE148 hP149 => ?_)
        rotate_left
        · exact False.elim hP149
        obtain ⟨r145, rfl, h⟩ := hP149
        refine X_tls ?_
        refine X_aload_n C dL_law_457 rfl 2 rfl (isRV_r _) ?_
        refine X_aload_n C dL_law_458 rfl 0 rfl (isRV_r _) ?_
        refine X_iload_n C dL_law_459 rfl 3 rfl ?_
        refine X_iconst (v := 1) C dL_law_460 rfl ?_
        refine X_iadd C dL_law_461 ?_
        refine X_ialdC C hSc g143 dL_law_462 ?_
        refine X_aload_n C dL_law_463 rfl 0 rfl (isRV_r _) ?_
        refine X_iload_n C dL_law_464 rfl 3 rfl ?_
        refine X_iconst (v := 2) C dL_law_465 rfl ?_
        refine X_iadd C dL_law_466 ?_
        refine X_ialdC C hSc g144 dL_law_467 ?_
        refine X_callVS (ci := 4) (q := (RX4, TX4, 54)) (As := [_, _]) (rest := [_]) C rfl (LX_S hX (k := 175) rfl) q2000 q2001 q2002 q136 q2003 ⟨rfl, nm_X4_target⟩ rfl dL_law_468 (m_X4_target (Cx_l C) hX (d := d - 1) (by omega) s146 (xS ((x3 + 1)).toNatClampNeg) (xS ((x3 + 2)).toNatClampNeg) h) (by omega) (by decide) (Nat.le_of_ble_eq_true rfl) (fun s154 w155 hE156 hP157 => ?_) (fun s160 E158 q159 hE156 hP157 => ?_)
        rotate_left
        · exact False.elim hP157
        obtain ⟨r153, rfl, h⟩ := hP157
        refine X_tls ?_
        refine X_icmp_eq (tgt := 1537) C dL_law_471 (by decide) (fun c161 => ?_) (fun c161 => ?_)
        · have h := h.1 c161
          exact t_L_law_b1537 hX hSc hd C hn hK18 s154 x3 h
        · have h := h.2 c161
          refine X_sub [] (lo2 := []) rfl ?_
          exact hE474 s154 h
      have h := h.2
      by_cases c182 : ((xS (x3).toNatClampNeg) &&& 63) = 8
      · have h := h.1 c182
        refine X_tableIn (tgt := 476) C dL_law_33 (by rw [c182]; decide) (by rw [c182]; decide) (off := 443) (by rw [c182]; rfl) (by decide) ?_
        refine X_aload_n C dL_law_476 rfl 1 rfl (isRV_r _) ?_
        refine X_aload_n C dL_law_477 rfl 0 rfl (isRV_r _) ?_
        refine X_iload_n C dL_law_478 rfl 3 rfl ?_
        refine X_iconst (v := 1) C dL_law_479 rfl ?_
        refine X_iadd C dL_law_480 ?_
        have g163 := h.1
        have h := h.2
        refine X_ialdC C hSc g163 dL_law_481 ?_
        refine X_aload_n C dL_law_482 rfl 0 rfl (isRV_r _) ?_
        refine X_iload_n C dL_law_483 rfl 3 rfl ?_
        refine X_iconst (v := 2) C dL_law_484 rfl ?_
        refine X_iadd C dL_law_485 ?_
        have g164 := h.1
        have h := h.2
        refine X_ialdC C hSc g164 dL_law_486 ?_
        refine X_callVXS (ci := 0) (q := (RX0, TX0, 49)) (As := [_, _]) (rest := []) C rfl (LX_S hX (k := 0) rfl) q634 q635 q636 q132 q637 ⟨rfl, nm_X0_give⟩ rfl dL_law_487 (m_X0_give (Cx_l C) hX (d := d - 1) (by omega) st (xS ((x3 + 1)).toNatClampNeg) (xS ((x3 + 2)).toNatClampNeg) h) (by omega) (by decide) (Nat.le_of_ble_eq_true rfl) (fun s166 w167 hE168 hP169 => ?_) (fun s172 E170 q171 hE168 hP169 => ?_)
        rotate_left
        · exact False.elim hP169
        obtain ⟨r165, rfl, h⟩ := hP169
        refine X_tls ?_
        refine X_aload_n C dL_law_490 rfl 2 rfl (isRV_r _) ?_
        refine X_aload_n C dL_law_491 rfl 0 rfl (isRV_r _) ?_
        refine X_iload_n C dL_law_492 rfl 3 rfl ?_
        refine X_iconst (v := 1) C dL_law_493 rfl ?_
        refine X_iadd C dL_law_494 ?_
        refine X_ialdC C hSc g163 dL_law_495 ?_
        refine X_aload_n C dL_law_496 rfl 0 rfl (isRV_r _) ?_
        refine X_iload_n C dL_law_497 rfl 3 rfl ?_
        refine X_iconst (v := 2) C dL_law_498 rfl ?_
        refine X_iadd C dL_law_499 ?_
        refine X_ialdC C hSc g164 dL_law_500 ?_
        refine X_callVS (ci := 4) (q := (RX4, TX4, 54)) (As := [_, _]) (rest := [_]) C rfl (LX_S hX (k := 175) rfl) q2010 q2011 q2012 q136 q2013 ⟨rfl, nm_X4_give⟩ rfl dL_law_501 (m_X4_give (Cx_l C) hX (d := d - 1) (by omega) s166 (xS ((x3 + 1)).toNatClampNeg) (xS ((x3 + 2)).toNatClampNeg) h) (by omega) (by decide) (Nat.le_of_ble_eq_true rfl) (fun s174 w175 hE176 hP177 => ?_) (fun s180 E178 q179 hE176 hP177 => ?_)
        rotate_left
        · exact False.elim hP177
        obtain ⟨r173, rfl, h⟩ := hP177
        refine X_tls ?_
        refine X_icmp_eq (tgt := 1537) C dL_law_504 (by decide) (fun c181 => ?_) (fun c181 => ?_)
        · have h := h.1 c181
          exact t_L_law_b1537 hX hSc hd C hn hK18 s174 x3 h
        · have h := h.2 c181
          refine X_sub [] (lo2 := []) rfl ?_
          exact hE507 s174 h
      have h := h.2
      by_cases c203 : ((xS (x3).toNatClampNeg) &&& 63) = 9
      · have h := h.1 c203
        refine X_tableIn (tgt := 509) C dL_law_33 (by rw [c203]; decide) (by rw [c203]; decide) (off := 476) (by rw [c203]; rfl) (by decide) ?_
        refine X_aload_n C dL_law_509 rfl 1 rfl (isRV_r _) ?_
        refine X_aload_n C dL_law_510 rfl 0 rfl (isRV_r _) ?_
        refine X_iload_n C dL_law_511 rfl 3 rfl ?_
        refine X_iconst (v := 1) C dL_law_512 rfl ?_
        refine X_iadd C dL_law_513 ?_
        have g183 := h.1
        have h := h.2
        refine X_ialdC C hSc g183 dL_law_514 ?_
        refine X_aload_n C dL_law_515 rfl 0 rfl (isRV_r _) ?_
        refine X_iload_n C dL_law_516 rfl 3 rfl ?_
        refine X_iconst (v := 2) C dL_law_517 rfl ?_
        refine X_iadd C dL_law_518 ?_
        have g184 := h.1
        have h := h.2
        refine X_ialdC C hSc g184 dL_law_519 ?_
        refine X_aload_n C dL_law_520 rfl 0 rfl (isRV_r _) ?_
        refine X_iload_n C dL_law_521 rfl 3 rfl ?_
        refine X_iconst (v := 3) C dL_law_522 rfl ?_
        refine X_iadd C dL_law_523 ?_
        have g185 := h.1
        have h := h.2
        refine X_ialdC C hSc g185 dL_law_524 ?_
        refine X_callVXS (ci := 0) (q := (RX0, TX0, 49)) (As := [_, _, _]) (rest := []) C rfl (LX_S hX (k := 0) rfl) q638 q639 q640 q132 q641 ⟨rfl, nm_X0_average⟩ rfl dL_law_525 (m_X0_average (Cx_l C) hX (d := d - 1) (by omega) st (xS ((x3 + 1)).toNatClampNeg) (xS ((x3 + 2)).toNatClampNeg) (xS ((x3 + 3)).toNatClampNeg) h) (by omega) (by decide) (Nat.le_of_ble_eq_true rfl) (fun s187 w188 hE189 hP190 => ?_) (fun s193 E191 q192 hE189 hP190 => ?_)
        rotate_left
        · exact False.elim hP190
        obtain ⟨r186, rfl, h⟩ := hP190
        refine X_tls ?_
        refine X_aload_n C dL_law_528 rfl 2 rfl (isRV_r _) ?_
        refine X_aload_n C dL_law_529 rfl 0 rfl (isRV_r _) ?_
        refine X_iload_n C dL_law_530 rfl 3 rfl ?_
        refine X_iconst (v := 1) C dL_law_531 rfl ?_
        refine X_iadd C dL_law_532 ?_
        refine X_ialdC C hSc g183 dL_law_533 ?_
        refine X_aload_n C dL_law_534 rfl 0 rfl (isRV_r _) ?_
        refine X_iload_n C dL_law_535 rfl 3 rfl ?_
        refine X_iconst (v := 2) C dL_law_536 rfl ?_
        refine X_iadd C dL_law_537 ?_
        refine X_ialdC C hSc g184 dL_law_538 ?_
        refine X_aload_n C dL_law_539 rfl 0 rfl (isRV_r _) ?_
        refine X_iload_n C dL_law_540 rfl 3 rfl ?_
        refine X_iconst (v := 3) C dL_law_541 rfl ?_
        refine X_iadd C dL_law_542 ?_
        refine X_ialdC C hSc g185 dL_law_543 ?_
        refine X_callVS (ci := 4) (q := (RX4, TX4, 54)) (As := [_, _, _]) (rest := [_]) C rfl (LX_S hX (k := 175) rfl) q2018 q2019 q2020 q136 q2021 ⟨rfl, nm_X4_average⟩ rfl dL_law_544 (m_X4_average (Cx_l C) hX (d := d - 1) (by omega) s187 (xS ((x3 + 1)).toNatClampNeg) (xS ((x3 + 2)).toNatClampNeg) (xS ((x3 + 3)).toNatClampNeg) h) (by omega) (by decide) (Nat.le_of_ble_eq_true rfl) (fun s195 w196 hE197 hP198 => ?_) (fun s201 E199 q200 hE197 hP198 => ?_)
        rotate_left
        · exact False.elim hP198
        obtain ⟨r194, rfl, h⟩ := hP198
        refine X_tls ?_
        refine X_icmp_eq (tgt := 1537) C dL_law_547 (by decide) (fun c202 => ?_) (fun c202 => ?_)
        · have h := h.1 c202
          exact t_L_law_b1537 hX hSc hd C hn hK18 s195 x3 h
        · have h := h.2 c202
          refine X_sub [] (lo2 := []) rfl ?_
          exact hE550 s195 h
      have h := h.2
      by_cases c223 : ((xS (x3).toNatClampNeg) &&& 63) = 10
      · have h := h.1 c223
        refine X_tableIn (tgt := 552) C dL_law_33 (by rw [c223]; decide) (by rw [c223]; decide) (off := 519) (by rw [c223]; rfl) (by decide) ?_
        refine X_aload_n C dL_law_552 rfl 1 rfl (isRV_r _) ?_
        refine X_aload_n C dL_law_553 rfl 0 rfl (isRV_r _) ?_
        refine X_iload_n C dL_law_554 rfl 3 rfl ?_
        refine X_iconst (v := 1) C dL_law_555 rfl ?_
        refine X_iadd C dL_law_556 ?_
        have g204 := h.1
        have h := h.2
        refine X_ialdC C hSc g204 dL_law_557 ?_
        refine X_aload_n C dL_law_558 rfl 0 rfl (isRV_r _) ?_
        refine X_iload_n C dL_law_559 rfl 3 rfl ?_
        refine X_iconst (v := 2) C dL_law_560 rfl ?_
        refine X_iadd C dL_law_561 ?_
        have g205 := h.1
        have h := h.2
        refine X_ialdC C hSc g205 dL_law_562 ?_
        refine X_callVXS (ci := 0) (q := (RX0, TX0, 49)) (As := [_, _]) (rest := []) C rfl (LX_S hX (k := 0) rfl) q654 q655 q656 q132 q657 ⟨rfl, nm_X0_value⟩ rfl dL_law_563 (m_X0_value (Cx_l C) hX (d := d - 1) (by omega) st (xS ((x3 + 1)).toNatClampNeg) (xS ((x3 + 2)).toNatClampNeg) h) (by omega) (by decide) (Nat.le_of_ble_eq_true rfl) (fun s207 w208 hE209 hP210 => ?_) (fun s213 E211 q212 hE209 hP210 => ?_)
        rotate_left
        · exact False.elim hP210
        obtain ⟨r206, rfl, h⟩ := hP210
        refine X_tls ?_
        refine X_aload_n C dL_law_566 rfl 2 rfl (isRV_r _) ?_
        refine X_aload_n C dL_law_567 rfl 0 rfl (isRV_r _) ?_
        refine X_iload_n C dL_law_568 rfl 3 rfl ?_
        refine X_iconst (v := 1) C dL_law_569 rfl ?_
        refine X_iadd C dL_law_570 ?_
        refine X_ialdC C hSc g204 dL_law_571 ?_
        refine X_aload_n C dL_law_572 rfl 0 rfl (isRV_r _) ?_
        refine X_iload_n C dL_law_573 rfl 3 rfl ?_
        refine X_iconst (v := 2) C dL_law_574 rfl ?_
        refine X_iadd C dL_law_575 ?_
        refine X_ialdC C hSc g205 dL_law_576 ?_
        refine X_callVS (ci := 4) (q := (RX4, TX4, 54)) (As := [_, _]) (rest := [_]) C rfl (LX_S hX (k := 175) rfl) q2026 q2027 q2028 q136 q2029 ⟨rfl, nm_X4_value⟩ rfl dL_law_577 (m_X4_value (Cx_l C) hX (d := d - 1) (by omega) s207 (xS ((x3 + 1)).toNatClampNeg) (xS ((x3 + 2)).toNatClampNeg) h) (by omega) (by decide) (Nat.le_of_ble_eq_true rfl) (fun s215 w216 hE217 hP218 => ?_) (fun s221 E219 q220 hE217 hP218 => ?_)
        rotate_left
        · exact False.elim hP218
        obtain ⟨r214, rfl, h⟩ := hP218
        refine X_tls ?_
        refine X_lcmp_eq (tgt := 1537) C dL_law_580 dL_law_581 (by decide) (fun c222 => ?_) (fun c222 => ?_)
        · have h := h.1 c222
          exact t_L_law_b1537 hX hSc hd C hn hK18 s215 x3 h
        · have h := h.2 c222
          refine X_sub [] (lo2 := []) rfl ?_
          exact hE584 s215 h
      have h := h.2
      by_cases c245 : ((xS (x3).toNatClampNeg) &&& 63) = 11
      · have h := h.1 c245
        refine X_tableIn (tgt := 586) C dL_law_33 (by rw [c245]; decide) (by rw [c245]; decide) (off := 553) (by rw [c245]; rfl) (by decide) ?_
        refine X_aload_n C dL_law_586 rfl 1 rfl (isRV_r _) ?_
        refine X_aload_n C dL_law_587 rfl 0 rfl (isRV_r _) ?_
        refine X_iload_n C dL_law_588 rfl 3 rfl ?_
        refine X_iconst (v := 1) C dL_law_589 rfl ?_
        refine X_iadd C dL_law_590 ?_
        have g224 := h.1
        have h := h.2
        refine X_ialdC C hSc g224 dL_law_591 ?_
        refine X_aload_n C dL_law_592 rfl 0 rfl (isRV_r _) ?_
        refine X_iload_n C dL_law_593 rfl 3 rfl ?_
        refine X_iconst (v := 2) C dL_law_594 rfl ?_
        refine X_iadd C dL_law_595 ?_
        have g225 := h.1
        have h := h.2
        refine X_ialdC C hSc g225 dL_law_596 ?_
        refine X_aload_n C dL_law_597 rfl 0 rfl (isRV_r _) ?_
        refine X_iload_n C dL_law_598 rfl 3 rfl ?_
        refine X_iconst (v := 3) C dL_law_599 rfl ?_
        refine X_iadd C dL_law_600 ?_
        have g226 := h.1
        have h := h.2
        refine X_ialdC C hSc g226 dL_law_601 ?_
        refine X_aload_n C dL_law_602 rfl 0 rfl (isRV_r _) ?_
        refine X_iload_n C dL_law_603 rfl 3 rfl ?_
        refine X_iconst (v := 4) C dL_law_604 rfl ?_
        refine X_iadd C dL_law_605 ?_
        have g227 := h.1
        have h := h.2
        refine X_ialdC C hSc g227 dL_law_606 ?_
        refine X_callVXS (ci := 0) (q := (RX0, TX0, 49)) (As := [_, _, _, _]) (rest := []) C rfl (LX_S hX (k := 0) rfl) q750 q751 q752 q132 q753 ⟨rfl, nm_X0_plan⟩ rfl dL_law_607 (m_X0_plan (Cx_l C) hX (d := d - 1) (by omega) st (xS ((x3 + 1)).toNatClampNeg) (xS ((x3 + 2)).toNatClampNeg) (xS ((x3 + 3)).toNatClampNeg) (xS ((x3 + 4)).toNatClampNeg) h) (by omega) (by decide) (Nat.le_of_ble_eq_true rfl) (fun s229 w230 hE231 hP232 => ?_) (fun s235 E233 q234 hE231 hP232 => ?_)
        rotate_left
        · exact False.elim hP232
        obtain ⟨r228, rfl, h⟩ := hP232
        refine X_tls ?_
        refine X_aload_n C dL_law_610 rfl 2 rfl (isRV_r _) ?_
        refine X_aload_n C dL_law_611 rfl 0 rfl (isRV_r _) ?_
        refine X_iload_n C dL_law_612 rfl 3 rfl ?_
        refine X_iconst (v := 1) C dL_law_613 rfl ?_
        refine X_iadd C dL_law_614 ?_
        refine X_ialdC C hSc g224 dL_law_615 ?_
        refine X_aload_n C dL_law_616 rfl 0 rfl (isRV_r _) ?_
        refine X_iload_n C dL_law_617 rfl 3 rfl ?_
        refine X_iconst (v := 2) C dL_law_618 rfl ?_
        refine X_iadd C dL_law_619 ?_
        refine X_ialdC C hSc g225 dL_law_620 ?_
        refine X_aload_n C dL_law_621 rfl 0 rfl (isRV_r _) ?_
        refine X_iload_n C dL_law_622 rfl 3 rfl ?_
        refine X_iconst (v := 3) C dL_law_623 rfl ?_
        refine X_iadd C dL_law_624 ?_
        refine X_ialdC C hSc g226 dL_law_625 ?_
        refine X_aload_n C dL_law_626 rfl 0 rfl (isRV_r _) ?_
        refine X_iload_n C dL_law_627 rfl 3 rfl ?_
        refine X_iconst (v := 4) C dL_law_628 rfl ?_
        refine X_iadd C dL_law_629 ?_
        refine X_ialdC C hSc g227 dL_law_630 ?_
        refine X_callVS (ci := 4) (q := (RX4, TX4, 54)) (As := [_, _, _, _]) (rest := [_]) C rfl (LX_S hX (k := 175) rfl) q2108 q2109 q2110 q136 q2111 ⟨rfl, nm_X4_plan⟩ rfl dL_law_631 (m_X4_plan (Cx_l C) hX (d := d - 1) (by omega) s229 (xS ((x3 + 1)).toNatClampNeg) (xS ((x3 + 2)).toNatClampNeg) (xS ((x3 + 3)).toNatClampNeg) (xS ((x3 + 4)).toNatClampNeg) h) (by omega) (by decide) (Nat.le_of_ble_eq_true rfl) (fun s237 w238 hE239 hP240 => ?_) (fun s243 E241 q242 hE239 hP240 => ?_)
        rotate_left
        · exact False.elim hP240
        obtain ⟨r236, rfl, h⟩ := hP240
        refine X_tls ?_
        refine X_lcmp_eq (tgt := 1537) C dL_law_634 dL_law_635 (by decide) (fun c244 => ?_) (fun c244 => ?_)
        · have h := h.1 c244
          exact t_L_law_b1537 hX hSc hd C hn hK18 s237 x3 h
        · have h := h.2 c244
          refine X_sub [] (lo2 := []) rfl ?_
          exact hE638 s237 h
      have h := h.2
      by_cases c268 : ((xS (x3).toNatClampNeg) &&& 63) = 12
      · have h := h.1 c268
        refine X_tableIn (tgt := 640) C dL_law_33 (by rw [c268]; decide) (by rw [c268]; decide) (off := 607) (by rw [c268]; rfl) (by decide) ?_
        refine X_aload_n C dL_law_640 rfl 1 rfl (isRV_r _) ?_
        refine X_aload_n C dL_law_641 rfl 0 rfl (isRV_r _) ?_
        refine X_iload_n C dL_law_642 rfl 3 rfl ?_
        refine X_iconst (v := 1) C dL_law_643 rfl ?_
        refine X_iadd C dL_law_644 ?_
        have g246 := h.1
        have h := h.2
        refine X_ialdC C hSc g246 dL_law_645 ?_
        refine X_aload_n C dL_law_646 rfl 0 rfl (isRV_r _) ?_
        refine X_iload_n C dL_law_647 rfl 3 rfl ?_
        refine X_iconst (v := 2) C dL_law_648 rfl ?_
        refine X_iadd C dL_law_649 ?_
        have g247 := h.1
        have h := h.2
        refine X_ialdC C hSc g247 dL_law_650 ?_
        refine X_aload_n C dL_law_651 rfl 0 rfl (isRV_r _) ?_
        refine X_iload_n C dL_law_652 rfl 3 rfl ?_
        refine X_iconst (v := 3) C dL_law_653 rfl ?_
        refine X_iadd C dL_law_654 ?_
        have g248 := h.1
        have h := h.2
        refine X_ialdC C hSc g248 dL_law_655 ?_
        refine X_aload_n C dL_law_656 rfl 0 rfl (isRV_r _) ?_
        refine X_iload_n C dL_law_657 rfl 3 rfl ?_
        refine X_iconst (v := 4) C dL_law_658 rfl ?_
        refine X_iadd C dL_law_659 ?_
        have g249 := h.1
        have h := h.2
        refine X_ialdC C hSc g249 dL_law_660 ?_
        refine X_aload_n C dL_law_661 rfl 0 rfl (isRV_r _) ?_
        refine X_iload_n C dL_law_662 rfl 3 rfl ?_
        refine X_iconst (v := 5) C dL_law_663 rfl ?_
        refine X_iadd C dL_law_664 ?_
        have g250 := h.1
        have h := h.2
        refine X_ialdC C hSc g250 dL_law_665 ?_
        refine X_callVXS (ci := 0) (q := (RX0, TX0, 49)) (As := [_, _, _, _, _]) (rest := []) C rfl (LX_S hX (k := 0) rfl) q758 q759 q760 q132 q761 ⟨rfl, nm_X0_mix⟩ rfl dL_law_666 (m_X0_mix (Cx_l C) hX (d := d - 1) (by omega) st (xS ((x3 + 1)).toNatClampNeg) (xS ((x3 + 2)).toNatClampNeg) (xS ((x3 + 3)).toNatClampNeg) (xS ((x3 + 4)).toNatClampNeg) (xS ((x3 + 5)).toNatClampNeg) h) (by omega) (by decide) (Nat.le_of_ble_eq_true rfl) (fun s252 w253 hE254 hP255 => ?_) (fun s258 E256 q257 hE254 hP255 => ?_)
        rotate_left
        · exact False.elim hP255
        obtain ⟨r251, rfl, h⟩ := hP255
        refine X_tls ?_
        refine X_aload_n C dL_law_669 rfl 2 rfl (isRV_r _) ?_
        refine X_aload_n C dL_law_670 rfl 0 rfl (isRV_r _) ?_
        refine X_iload_n C dL_law_671 rfl 3 rfl ?_
        refine X_iconst (v := 1) C dL_law_672 rfl ?_
        refine X_iadd C dL_law_673 ?_
        refine X_ialdC C hSc g246 dL_law_674 ?_
        refine X_aload_n C dL_law_675 rfl 0 rfl (isRV_r _) ?_
        refine X_iload_n C dL_law_676 rfl 3 rfl ?_
        refine X_iconst (v := 2) C dL_law_677 rfl ?_
        refine X_iadd C dL_law_678 ?_
        refine X_ialdC C hSc g247 dL_law_679 ?_
        refine X_aload_n C dL_law_680 rfl 0 rfl (isRV_r _) ?_
        refine X_iload_n C dL_law_681 rfl 3 rfl ?_
        refine X_iconst (v := 3) C dL_law_682 rfl ?_
        refine X_iadd C dL_law_683 ?_
        refine X_ialdC C hSc g248 dL_law_684 ?_
        refine X_aload_n C dL_law_685 rfl 0 rfl (isRV_r _) ?_
        refine X_iload_n C dL_law_686 rfl 3 rfl ?_
        refine X_iconst (v := 4) C dL_law_687 rfl ?_
        refine X_iadd C dL_law_688 ?_
        refine X_ialdC C hSc g249 dL_law_689 ?_
        refine X_aload_n C dL_law_690 rfl 0 rfl (isRV_r _) ?_
        refine X_iload_n C dL_law_691 rfl 3 rfl ?_
        refine X_iconst (v := 5) C dL_law_692 rfl ?_
        refine X_iadd C dL_law_693 ?_
        refine X_ialdC C hSc g250 dL_law_694 ?_
        refine X_callVS (ci := 4) (q := (RX4, TX4, 54)) (As := [_, _, _, _, _]) (rest := [_]) C rfl (LX_S hX (k := 175) rfl) q2112 q2113 q2114 q136 q2115 ⟨rfl, nm_X4_mix⟩ rfl dL_law_695 (m_X4_mix (Cx_l C) hX (d := d - 1) (by omega) s252 (xS ((x3 + 1)).toNatClampNeg) (xS ((x3 + 2)).toNatClampNeg) (xS ((x3 + 3)).toNatClampNeg) (xS ((x3 + 4)).toNatClampNeg) (xS ((x3 + 5)).toNatClampNeg) h) (by omega) (by decide) (Nat.le_of_ble_eq_true rfl) (fun s260 w261 hE262 hP263 => ?_) (fun s266 E264 q265 hE262 hP263 => ?_)
        rotate_left
        · exact False.elim hP263
        obtain ⟨r259, rfl, h⟩ := hP263
        refine X_tls ?_
        refine X_lcmp_eq (tgt := 1537) C dL_law_698 dL_law_699 (by decide) (fun c267 => ?_) (fun c267 => ?_)
        · have h := h.1 c267
          exact t_L_law_b1537 hX hSc hd C hn hK18 s260 x3 h
        · have h := h.2 c267
          refine X_sub [] (lo2 := []) rfl ?_
          exact hE702 s260 h
      have h := h.2
      by_cases c288 : ((xS (x3).toNatClampNeg) &&& 63) = 13
      · have h := h.1 c288
        refine X_tableIn (tgt := 704) C dL_law_33 (by rw [c288]; decide) (by rw [c288]; decide) (off := 671) (by rw [c288]; rfl) (by decide) ?_
        refine X_aload_n C dL_law_704 rfl 1 rfl (isRV_r _) ?_
        refine X_aload_n C dL_law_705 rfl 0 rfl (isRV_r _) ?_
        refine X_iload_n C dL_law_706 rfl 3 rfl ?_
        refine X_iconst (v := 1) C dL_law_707 rfl ?_
        refine X_iadd C dL_law_708 ?_
        have g269 := h.1
        have h := h.2
        refine X_ialdC C hSc g269 dL_law_709 ?_
        refine X_aload_n C dL_law_710 rfl 0 rfl (isRV_r _) ?_
        refine X_iload_n C dL_law_711 rfl 3 rfl ?_
        refine X_iconst (v := 2) C dL_law_712 rfl ?_
        refine X_iadd C dL_law_713 ?_
        have g270 := h.1
        have h := h.2
        refine X_ialdC C hSc g270 dL_law_714 ?_
        refine X_callVXS (ci := 0) (q := (RX0, TX0, 49)) (As := [_, _]) (rest := []) C rfl (LX_S hX (k := 0) rfl) q825 q826 q827 q132 q828 ⟨rfl, nm_X0_hull⟩ rfl dL_law_715 (m_X0_hull (Cx_l C) hX (d := d - 1) (by omega) st (xS ((x3 + 1)).toNatClampNeg) (xS ((x3 + 2)).toNatClampNeg) h) (by omega) (by decide) (Nat.le_of_ble_eq_true rfl) (fun s272 w273 hE274 hP275 => ?_) (fun s278 E276 q277 hE274 hP275 => ?_)
        rotate_left
        · exact False.elim hP275
        obtain ⟨r271, rfl, h⟩ := hP275
        refine X_tls ?_
        refine X_aload_n C dL_law_718 rfl 2 rfl (isRV_r _) ?_
        refine X_aload_n C dL_law_719 rfl 0 rfl (isRV_r _) ?_
        refine X_iload_n C dL_law_720 rfl 3 rfl ?_
        refine X_iconst (v := 1) C dL_law_721 rfl ?_
        refine X_iadd C dL_law_722 ?_
        refine X_ialdC C hSc g269 dL_law_723 ?_
        refine X_aload_n C dL_law_724 rfl 0 rfl (isRV_r _) ?_
        refine X_iload_n C dL_law_725 rfl 3 rfl ?_
        refine X_iconst (v := 2) C dL_law_726 rfl ?_
        refine X_iadd C dL_law_727 ?_
        refine X_ialdC C hSc g270 dL_law_728 ?_
        refine X_callVS (ci := 4) (q := (RX4, TX4, 54)) (As := [_, _]) (rest := [_]) C rfl (LX_S hX (k := 175) rfl) q2152 q2153 q2154 q136 q2155 ⟨rfl, nm_X4_hull⟩ rfl dL_law_729 (m_X4_hull (Cx_l C) hX (d := d - 1) (by omega) s272 (xS ((x3 + 1)).toNatClampNeg) (xS ((x3 + 2)).toNatClampNeg) h) (by omega) (by decide) (Nat.le_of_ble_eq_true rfl) (fun s280 w281 hE282 hP283 => ?_) (fun s286 E284 q285 hE282 hP283 => ?_)
        rotate_left
        · exact False.elim hP283
        obtain ⟨r279, rfl, h⟩ := hP283
        refine X_tls ?_
        refine X_lcmp_eq (tgt := 1537) C dL_law_732 dL_law_733 (by decide) (fun c287 => ?_) (fun c287 => ?_)
        · have h := h.1 c287
          exact t_L_law_b1537 hX hSc hd C hn hK18 s280 x3 h
        · have h := h.2 c287
          refine X_sub [] (lo2 := []) rfl ?_
          exact hE736 s280 h
      have h := h.2
      by_cases c308 : ((xS (x3).toNatClampNeg) &&& 63) = 14
      · have h := h.1 c308
        refine X_tableIn (tgt := 738) C dL_law_33 (by rw [c308]; decide) (by rw [c308]; decide) (off := 705) (by rw [c308]; rfl) (by decide) ?_
        refine X_aload_n C dL_law_738 rfl 1 rfl (isRV_r _) ?_
        refine X_aload_n C dL_law_739 rfl 0 rfl (isRV_r _) ?_
        refine X_iload_n C dL_law_740 rfl 3 rfl ?_
        refine X_iconst (v := 1) C dL_law_741 rfl ?_
        refine X_iadd C dL_law_742 ?_
        have g289 := h.1
        have h := h.2
        refine X_ialdC C hSc g289 dL_law_743 ?_
        refine X_aload_n C dL_law_744 rfl 0 rfl (isRV_r _) ?_
        refine X_iload_n C dL_law_745 rfl 3 rfl ?_
        refine X_iconst (v := 2) C dL_law_746 rfl ?_
        refine X_iadd C dL_law_747 ?_
        have g290 := h.1
        have h := h.2
        refine X_ialdC C hSc g290 dL_law_748 ?_
        refine X_callVXS (ci := 0) (q := (RX0, TX0, 49)) (As := [_, _]) (rest := []) C rfl (LX_S hX (k := 0) rfl) q856 q857 q858 q132 q859 ⟨rfl, nm_X0_best⟩ rfl dL_law_749 (m_X0_best (Cx_l C) hX (d := d - 1) (by omega) st (xS ((x3 + 1)).toNatClampNeg) (xS ((x3 + 2)).toNatClampNeg) h) (by omega) (by decide) (Nat.le_of_ble_eq_true rfl) (fun s292 w293 hE294 hP295 => ?_) (fun s298 E296 q297 hE294 hP295 => ?_)
        rotate_left
        · exact False.elim hP295
        obtain ⟨r291, rfl, h⟩ := hP295
        refine X_tls ?_
        refine X_aload_n C dL_law_752 rfl 2 rfl (isRV_r _) ?_
        refine X_aload_n C dL_law_753 rfl 0 rfl (isRV_r _) ?_
        refine X_iload_n C dL_law_754 rfl 3 rfl ?_
        refine X_iconst (v := 1) C dL_law_755 rfl ?_
        refine X_iadd C dL_law_756 ?_
        refine X_ialdC C hSc g289 dL_law_757 ?_
        refine X_aload_n C dL_law_758 rfl 0 rfl (isRV_r _) ?_
        refine X_iload_n C dL_law_759 rfl 3 rfl ?_
        refine X_iconst (v := 2) C dL_law_760 rfl ?_
        refine X_iadd C dL_law_761 ?_
        refine X_ialdC C hSc g290 dL_law_762 ?_
        refine X_callVS (ci := 4) (q := (RX4, TX4, 54)) (As := [_, _]) (rest := [_]) C rfl (LX_S hX (k := 175) rfl) q2168 q2169 q2170 q136 q2171 ⟨rfl, nm_X4_best⟩ rfl dL_law_763 (m_X4_best (Cx_l C) hX (d := d - 1) (by omega) s292 (xS ((x3 + 1)).toNatClampNeg) (xS ((x3 + 2)).toNatClampNeg) h) (by omega) (by decide) (Nat.le_of_ble_eq_true rfl) (fun s300 w301 hE302 hP303 => ?_) (fun s306 E304 q305 hE302 hP303 => ?_)
        rotate_left
        · exact False.elim hP303
        obtain ⟨r299, rfl, h⟩ := hP303
        refine X_tls ?_
        refine X_icmp_eq (tgt := 1537) C dL_law_766 (by decide) (fun c307 => ?_) (fun c307 => ?_)
        · have h := h.1 c307
          exact t_L_law_b1537 hX hSc hd C hn hK18 s300 x3 h
        · have h := h.2 c307
          refine X_sub [] (lo2 := []) rfl ?_
          exact hE769 s300 h
      have h := h.2
      by_cases c329 : ((xS (x3).toNatClampNeg) &&& 63) = 15
      · have h := h.1 c329
        refine X_tableIn (tgt := 771) C dL_law_33 (by rw [c329]; decide) (by rw [c329]; decide) (off := 738) (by rw [c329]; rfl) (by decide) ?_
        refine X_aload_n C dL_law_771 rfl 1 rfl (isRV_r _) ?_
        refine X_aload_n C dL_law_772 rfl 0 rfl (isRV_r _) ?_
        refine X_iload_n C dL_law_773 rfl 3 rfl ?_
        refine X_iconst (v := 1) C dL_law_774 rfl ?_
        refine X_iadd C dL_law_775 ?_
        have g309 := h.1
        have h := h.2
        refine X_ialdC C hSc g309 dL_law_776 ?_
        refine X_aload_n C dL_law_777 rfl 0 rfl (isRV_r _) ?_
        refine X_iload_n C dL_law_778 rfl 3 rfl ?_
        refine X_iconst (v := 2) C dL_law_779 rfl ?_
        refine X_iadd C dL_law_780 ?_
        have g310 := h.1
        have h := h.2
        refine X_ialdC C hSc g310 dL_law_781 ?_
        refine X_aload_n C dL_law_782 rfl 0 rfl (isRV_r _) ?_
        refine X_iload_n C dL_law_783 rfl 3 rfl ?_
        refine X_iconst (v := 3) C dL_law_784 rfl ?_
        refine X_iadd C dL_law_785 ?_
        have g311 := h.1
        have h := h.2
        refine X_ialdC C hSc g311 dL_law_786 ?_
        refine X_callVXS (ci := 0) (q := (RX0, TX0, 49)) (As := [_, _, _]) (rest := []) C rfl (LX_S hX (k := 0) rfl) q864 q865 q866 q132 q867 ⟨rfl, nm_X0_weight⟩ rfl dL_law_787 (m_X0_weight (Cx_l C) hX (d := d - 1) (by omega) st (xS ((x3 + 1)).toNatClampNeg) (xS ((x3 + 2)).toNatClampNeg) (xS ((x3 + 3)).toNatClampNeg) h) (by omega) (by decide) (Nat.le_of_ble_eq_true rfl) (fun s313 w314 hE315 hP316 => ?_) (fun s319 E317 q318 hE315 hP316 => ?_)
        rotate_left
        · exact False.elim hP316
        obtain ⟨r312, rfl, h⟩ := hP316
        refine X_tls ?_
        refine X_aload_n C dL_law_790 rfl 2 rfl (isRV_r _) ?_
        refine X_aload_n C dL_law_791 rfl 0 rfl (isRV_r _) ?_
        refine X_iload_n C dL_law_792 rfl 3 rfl ?_
        refine X_iconst (v := 1) C dL_law_793 rfl ?_
        refine X_iadd C dL_law_794 ?_
        refine X_ialdC C hSc g309 dL_law_795 ?_
        refine X_aload_n C dL_law_796 rfl 0 rfl (isRV_r _) ?_
        refine X_iload_n C dL_law_797 rfl 3 rfl ?_
        refine X_iconst (v := 2) C dL_law_798 rfl ?_
        refine X_iadd C dL_law_799 ?_
        refine X_ialdC C hSc g310 dL_law_800 ?_
        refine X_aload_n C dL_law_801 rfl 0 rfl (isRV_r _) ?_
        refine X_iload_n C dL_law_802 rfl 3 rfl ?_
        refine X_iconst (v := 3) C dL_law_803 rfl ?_
        refine X_iadd C dL_law_804 ?_
        refine X_ialdC C hSc g311 dL_law_805 ?_
        refine X_callVS (ci := 4) (q := (RX4, TX4, 54)) (As := [_, _, _]) (rest := [_]) C rfl (LX_S hX (k := 175) rfl) q2172 q2173 q2174 q136 q2175 ⟨rfl, nm_X4_weight⟩ rfl dL_law_806 (m_X4_weight (Cx_l C) hX (d := d - 1) (by omega) s313 (xS ((x3 + 1)).toNatClampNeg) (xS ((x3 + 2)).toNatClampNeg) (xS ((x3 + 3)).toNatClampNeg) h) (by omega) (by decide) (Nat.le_of_ble_eq_true rfl) (fun s321 w322 hE323 hP324 => ?_) (fun s327 E325 q326 hE323 hP324 => ?_)
        rotate_left
        · exact False.elim hP324
        obtain ⟨r320, rfl, h⟩ := hP324
        refine X_tls ?_
        refine X_lcmp_eq (tgt := 1537) C dL_law_809 dL_law_810 (by decide) (fun c328 => ?_) (fun c328 => ?_)
        · have h := h.1 c328
          exact t_L_law_b1537 hX hSc hd C hn hK18 s321 x3 h
        · have h := h.2 c328
          refine X_sub [] (lo2 := []) rfl ?_
          exact hE813 s321 h
      have h := h.2
      by_cases c348 : ((xS (x3).toNatClampNeg) &&& 63) = 16
      · have h := h.1 c348
        refine X_tableIn (tgt := 815) C dL_law_33 (by rw [c348]; decide) (by rw [c348]; decide) (off := 782) (by rw [c348]; rfl) (by decide) ?_
        refine X_aload_n C dL_law_815 rfl 1 rfl (isRV_r _) ?_
        refine X_aload_n C dL_law_816 rfl 0 rfl (isRV_r _) ?_
        refine X_iload_n C dL_law_817 rfl 3 rfl ?_
        refine X_iconst (v := 1) C dL_law_818 rfl ?_
        refine X_iadd C dL_law_819 ?_
        have g330 := h.1
        have h := h.2
        refine X_ialdC C hSc g330 dL_law_820 ?_
        refine X_callVXS (ci := 0) (q := (RX0, TX0, 49)) (As := [_]) (rest := []) C rfl (LX_S hX (k := 0) rfl) q868 q869 q870 q132 q871 ⟨rfl, nm_X0_points⟩ rfl dL_law_821 (m_X0_points (Cx_l C) hX (d := d - 1) (by omega) st (xS ((x3 + 1)).toNatClampNeg) h) (by omega) (by decide) (Nat.le_of_ble_eq_true rfl) (fun s332 w333 hE334 hP335 => ?_) (fun s338 E336 q337 hE334 hP335 => ?_)
        rotate_left
        · exact False.elim hP335
        obtain ⟨r331, rfl, h⟩ := hP335
        refine X_tls ?_
        refine X_aload_n C dL_law_824 rfl 2 rfl (isRV_r _) ?_
        refine X_aload_n C dL_law_825 rfl 0 rfl (isRV_r _) ?_
        refine X_iload_n C dL_law_826 rfl 3 rfl ?_
        refine X_iconst (v := 1) C dL_law_827 rfl ?_
        refine X_iadd C dL_law_828 ?_
        refine X_ialdC C hSc g330 dL_law_829 ?_
        refine X_callVS (ci := 4) (q := (RX4, TX4, 54)) (As := [_]) (rest := [_]) C rfl (LX_S hX (k := 175) rfl) q2176 q2177 q2178 q136 q2179 ⟨rfl, nm_X4_points_2⟩ rfl dL_law_830 (m_X4_points_2 (Cx_l C) hX (d := d - 1) (by omega) s332 (xS ((x3 + 1)).toNatClampNeg) h) (by omega) (by decide) (Nat.le_of_ble_eq_true rfl) (fun s340 w341 hE342 hP343 => ?_) (fun s346 E344 q345 hE342 hP343 => ?_)
        rotate_left
        · exact False.elim hP343
        obtain ⟨r339, rfl, h⟩ := hP343
        refine X_tls ?_
        refine X_icmp_eq (tgt := 1537) C dL_law_833 (by decide) (fun c347 => ?_) (fun c347 => ?_)
        · have h := h.1 c347
          exact t_L_law_b1537 hX hSc hd C hn hK18 s340 x3 h
        · have h := h.2 c347
          refine X_sub [] (lo2 := []) rfl ?_
          exact hE836 s340 h
      have h := h.2
      by_cases c369 : ((xS (x3).toNatClampNeg) &&& 63) = 17
      · have h := h.1 c369
        refine X_tableIn (tgt := 838) C dL_law_33 (by rw [c369]; decide) (by rw [c369]; decide) (off := 805) (by rw [c369]; rfl) (by decide) ?_
        refine X_aload_n C dL_law_838 rfl 1 rfl (isRV_r _) ?_
        refine X_aload_n C dL_law_839 rfl 0 rfl (isRV_r _) ?_
        refine X_iload_n C dL_law_840 rfl 3 rfl ?_
        refine X_iconst (v := 1) C dL_law_841 rfl ?_
        refine X_iadd C dL_law_842 ?_
        have g349 := h.1
        have h := h.2
        refine X_ialdC C hSc g349 dL_law_843 ?_
        refine X_aload_n C dL_law_844 rfl 0 rfl (isRV_r _) ?_
        refine X_iload_n C dL_law_845 rfl 3 rfl ?_
        refine X_iconst (v := 2) C dL_law_846 rfl ?_
        refine X_iadd C dL_law_847 ?_
        have g350 := h.1
        have h := h.2
        refine X_ialdC C hSc g350 dL_law_848 ?_
        refine X_aload_n C dL_law_849 rfl 0 rfl (isRV_r _) ?_
        refine X_iload_n C dL_law_850 rfl 3 rfl ?_
        refine X_iconst (v := 3) C dL_law_851 rfl ?_
        refine X_iadd C dL_law_852 ?_
        have g351 := h.1
        have h := h.2
        refine X_ialdC C hSc g351 dL_law_853 ?_
        refine X_callVXS (ci := 0) (q := (RX0, TX0, 49)) (As := [_, _, _]) (rest := []) C rfl (LX_S hX (k := 0) rfl) q876 q877 q878 q132 q879 ⟨rfl, nm_X0_price⟩ rfl dL_law_854 (m_X0_price (Cx_l C) hX (d := d - 1) (by omega) st (xS ((x3 + 1)).toNatClampNeg) (xS ((x3 + 2)).toNatClampNeg) (xS ((x3 + 3)).toNatClampNeg) h) (by omega) (by decide) (Nat.le_of_ble_eq_true rfl) (fun s353 w354 hE355 hP356 => ?_) (fun s359 E357 q358 hE355 hP356 => ?_)
        rotate_left
        · exact False.elim hP356
        obtain ⟨r352, rfl, h⟩ := hP356
        refine X_tls ?_
        refine X_aload_n C dL_law_857 rfl 2 rfl (isRV_r _) ?_
        refine X_aload_n C dL_law_858 rfl 0 rfl (isRV_r _) ?_
        refine X_iload_n C dL_law_859 rfl 3 rfl ?_
        refine X_iconst (v := 1) C dL_law_860 rfl ?_
        refine X_iadd C dL_law_861 ?_
        refine X_ialdC C hSc g349 dL_law_862 ?_
        refine X_aload_n C dL_law_863 rfl 0 rfl (isRV_r _) ?_
        refine X_iload_n C dL_law_864 rfl 3 rfl ?_
        refine X_iconst (v := 2) C dL_law_865 rfl ?_
        refine X_iadd C dL_law_866 ?_
        refine X_ialdC C hSc g350 dL_law_867 ?_
        refine X_aload_n C dL_law_868 rfl 0 rfl (isRV_r _) ?_
        refine X_iload_n C dL_law_869 rfl 3 rfl ?_
        refine X_iconst (v := 3) C dL_law_870 rfl ?_
        refine X_iadd C dL_law_871 ?_
        refine X_ialdC C hSc g351 dL_law_872 ?_
        refine X_callVS (ci := 4) (q := (RX4, TX4, 54)) (As := [_, _, _]) (rest := [_]) C rfl (LX_S hX (k := 175) rfl) q2180 q2181 q2182 q136 q2183 ⟨rfl, nm_X4_price⟩ rfl dL_law_873 (m_X4_price (Cx_l C) hX (d := d - 1) (by omega) s353 (xS ((x3 + 1)).toNatClampNeg) (xS ((x3 + 2)).toNatClampNeg) (xS ((x3 + 3)).toNatClampNeg) h) (by omega) (by decide) (Nat.le_of_ble_eq_true rfl) (fun s361 w362 hE363 hP364 => ?_) (fun s367 E365 q366 hE363 hP364 => ?_)
        rotate_left
        · exact False.elim hP364
        obtain ⟨r360, rfl, h⟩ := hP364
        refine X_tls ?_
        refine X_lcmp_eq (tgt := 1537) C dL_law_876 dL_law_877 (by decide) (fun c368 => ?_) (fun c368 => ?_)
        · have h := h.1 c368
          exact t_L_law_b1537 hX hSc hd C hn hK18 s361 x3 h
        · have h := h.2 c368
          refine X_sub [] (lo2 := []) rfl ?_
          exact hE880 s361 h
      have h := h.2
      by_cases c389 : ((xS (x3).toNatClampNeg) &&& 63) = 18
      · have h := h.1 c389
        refine X_tableIn (tgt := 882) C dL_law_33 (by rw [c389]; decide) (by rw [c389]; decide) (off := 849) (by rw [c389]; rfl) (by decide) ?_
        refine X_aload_n C dL_law_882 rfl 1 rfl (isRV_r _) ?_
        refine X_aload_n C dL_law_883 rfl 0 rfl (isRV_r _) ?_
        refine X_iload_n C dL_law_884 rfl 3 rfl ?_
        refine X_iconst (v := 1) C dL_law_885 rfl ?_
        refine X_iadd C dL_law_886 ?_
        have g370 := h.1
        have h := h.2
        refine X_ialdC C hSc g370 dL_law_887 ?_
        refine X_aload_n C dL_law_888 rfl 0 rfl (isRV_r _) ?_
        refine X_iload_n C dL_law_889 rfl 3 rfl ?_
        refine X_iconst (v := 2) C dL_law_890 rfl ?_
        refine X_iadd C dL_law_891 ?_
        have g371 := h.1
        have h := h.2
        refine X_ialdC C hSc g371 dL_law_892 ?_
        refine X_callVXS (ci := 0) (q := (RX0, TX0, 49)) (As := [_, _]) (rest := []) C rfl (LX_S hX (k := 0) rfl) q904 q905 q906 q132 q907 ⟨rfl, nm_X0_once⟩ rfl dL_law_893 (m_X0_once (Cx_l C) hX (d := d - 1) (by omega) st (xS ((x3 + 1)).toNatClampNeg) (xS ((x3 + 2)).toNatClampNeg) h) (by omega) (by decide) (Nat.le_of_ble_eq_true rfl) (fun s373 w374 hE375 hP376 => ?_) (fun s379 E377 q378 hE375 hP376 => ?_)
        rotate_left
        · exact False.elim hP376
        obtain ⟨r372, rfl, h⟩ := hP376
        refine X_tls ?_
        refine X_aload_n C dL_law_896 rfl 2 rfl (isRV_r _) ?_
        refine X_aload_n C dL_law_897 rfl 0 rfl (isRV_r _) ?_
        refine X_iload_n C dL_law_898 rfl 3 rfl ?_
        refine X_iconst (v := 1) C dL_law_899 rfl ?_
        refine X_iadd C dL_law_900 ?_
        refine X_ialdC C hSc g370 dL_law_901 ?_
        refine X_aload_n C dL_law_902 rfl 0 rfl (isRV_r _) ?_
        refine X_iload_n C dL_law_903 rfl 3 rfl ?_
        refine X_iconst (v := 2) C dL_law_904 rfl ?_
        refine X_iadd C dL_law_905 ?_
        refine X_ialdC C hSc g371 dL_law_906 ?_
        refine X_callVS (ci := 4) (q := (RX4, TX4, 54)) (As := [_, _]) (rest := [_]) C rfl (LX_S hX (k := 175) rfl) q2196 q2197 q2198 q136 q2199 ⟨rfl, nm_X4_once⟩ rfl dL_law_907 (m_X4_once (Cx_l C) hX (d := d - 1) (by omega) s373 (xS ((x3 + 1)).toNatClampNeg) (xS ((x3 + 2)).toNatClampNeg) h) (by omega) (by decide) (Nat.le_of_ble_eq_true rfl) (fun s381 w382 hE383 hP384 => ?_) (fun s387 E385 q386 hE383 hP384 => ?_)
        rotate_left
        · exact False.elim hP384
        obtain ⟨r380, rfl, h⟩ := hP384
        refine X_tls ?_
        refine X_lcmp_eq (tgt := 1537) C dL_law_910 dL_law_911 (by decide) (fun c388 => ?_) (fun c388 => ?_)
        · have h := h.1 c388
          exact t_L_law_b1537 hX hSc hd C hn hK18 s381 x3 h
        · have h := h.2 c388
          refine X_sub [] (lo2 := []) rfl ?_
          exact hE914 s381 h
      have h := h.2
      by_cases c409 : ((xS (x3).toNatClampNeg) &&& 63) = 19
      · have h := h.1 c409
        refine X_tableIn (tgt := 916) C dL_law_33 (by rw [c409]; decide) (by rw [c409]; decide) (off := 883) (by rw [c409]; rfl) (by decide) ?_
        refine X_aload_n C dL_law_916 rfl 1 rfl (isRV_r _) ?_
        refine X_aload_n C dL_law_917 rfl 0 rfl (isRV_r _) ?_
        refine X_iload_n C dL_law_918 rfl 3 rfl ?_
        refine X_iconst (v := 1) C dL_law_919 rfl ?_
        refine X_iadd C dL_law_920 ?_
        have g390 := h.1
        have h := h.2
        refine X_ialdC C hSc g390 dL_law_921 ?_
        refine X_aload_n C dL_law_922 rfl 0 rfl (isRV_r _) ?_
        refine X_iload_n C dL_law_923 rfl 3 rfl ?_
        refine X_iconst (v := 2) C dL_law_924 rfl ?_
        refine X_iadd C dL_law_925 ?_
        have g391 := h.1
        have h := h.2
        refine X_ialdC C hSc g391 dL_law_926 ?_
        refine X_callVXS (ci := 0) (q := (RX0, TX0, 49)) (As := [_, _]) (rest := []) C rfl (LX_S hX (k := 0) rfl) q916 q917 q918 q132 q919 ⟨rfl, nm_X0_gap⟩ rfl dL_law_927 (m_X0_gap (Cx_l C) hX (d := d - 1) (by omega) st (xS ((x3 + 1)).toNatClampNeg) (xS ((x3 + 2)).toNatClampNeg) h) (by omega) (by decide) (Nat.le_of_ble_eq_true rfl) (fun s393 w394 hE395 hP396 => ?_) (fun s399 E397 q398 hE395 hP396 => ?_)
        rotate_left
        · exact False.elim hP396
        obtain ⟨r392, rfl, h⟩ := hP396
        refine X_tls ?_
        refine X_aload_n C dL_law_930 rfl 2 rfl (isRV_r _) ?_
        refine X_aload_n C dL_law_931 rfl 0 rfl (isRV_r _) ?_
        refine X_iload_n C dL_law_932 rfl 3 rfl ?_
        refine X_iconst (v := 1) C dL_law_933 rfl ?_
        refine X_iadd C dL_law_934 ?_
        refine X_ialdC C hSc g390 dL_law_935 ?_
        refine X_aload_n C dL_law_936 rfl 0 rfl (isRV_r _) ?_
        refine X_iload_n C dL_law_937 rfl 3 rfl ?_
        refine X_iconst (v := 2) C dL_law_938 rfl ?_
        refine X_iadd C dL_law_939 ?_
        refine X_ialdC C hSc g391 dL_law_940 ?_
        refine X_callVS (ci := 4) (q := (RX4, TX4, 54)) (As := [_, _]) (rest := [_]) C rfl (LX_S hX (k := 175) rfl) q2204 q2205 q2206 q136 q2207 ⟨rfl, nm_X4_gap⟩ rfl dL_law_941 (m_X4_gap (Cx_l C) hX (d := d - 1) (by omega) s393 (xS ((x3 + 1)).toNatClampNeg) (xS ((x3 + 2)).toNatClampNeg) h) (by omega) (by decide) (Nat.le_of_ble_eq_true rfl) (fun s401 w402 hE403 hP404 => ?_) (fun s407 E405 q406 hE403 hP404 => ?_)
        rotate_left
        · exact False.elim hP404
        obtain ⟨r400, rfl, h⟩ := hP404
        refine X_tls ?_
        refine X_lcmp_eq (tgt := 1537) C dL_law_944 dL_law_945 (by decide) (fun c408 => ?_) (fun c408 => ?_)
        · have h := h.1 c408
          exact t_L_law_b1537 hX hSc hd C hn hK18 s401 x3 h
        · have h := h.2 c408
          refine X_sub [] (lo2 := []) rfl ?_
          exact hE948 s401 h
      have h := h.2
      by_cases c430 : ((xS (x3).toNatClampNeg) &&& 63) = 20
      · have h := h.1 c430
        refine X_tableIn (tgt := 950) C dL_law_33 (by rw [c430]; decide) (by rw [c430]; decide) (off := 917) (by rw [c430]; rfl) (by decide) ?_
        refine X_aload_n C dL_law_950 rfl 1 rfl (isRV_r _) ?_
        refine X_aload_n C dL_law_951 rfl 0 rfl (isRV_r _) ?_
        refine X_iload_n C dL_law_952 rfl 3 rfl ?_
        refine X_iconst (v := 1) C dL_law_953 rfl ?_
        refine X_iadd C dL_law_954 ?_
        have g410 := h.1
        have h := h.2
        refine X_ialdC C hSc g410 dL_law_955 ?_
        refine X_aload_n C dL_law_956 rfl 0 rfl (isRV_r _) ?_
        refine X_iload_n C dL_law_957 rfl 3 rfl ?_
        refine X_iconst (v := 2) C dL_law_958 rfl ?_
        refine X_iadd C dL_law_959 ?_
        have g411 := h.1
        have h := h.2
        refine X_ialdC C hSc g411 dL_law_960 ?_
        refine X_aload_n C dL_law_961 rfl 0 rfl (isRV_r _) ?_
        refine X_iload_n C dL_law_962 rfl 3 rfl ?_
        refine X_iconst (v := 3) C dL_law_963 rfl ?_
        refine X_iadd C dL_law_964 ?_
        have g412 := h.1
        have h := h.2
        refine X_ialdC C hSc g412 dL_law_965 ?_
        refine X_callVXS (ci := 0) (q := (RX0, TX0, 49)) (As := [_, _, _]) (rest := []) C rfl (LX_S hX (k := 0) rfl) q920 q921 q922 q132 q923 ⟨rfl, nm_X0_posterior⟩ rfl dL_law_966 (m_X0_posterior (Cx_l C) hX (d := d - 1) (by omega) st (xS ((x3 + 1)).toNatClampNeg) (xS ((x3 + 2)).toNatClampNeg) (xS ((x3 + 3)).toNatClampNeg) h) (by omega) (by decide) (Nat.le_of_ble_eq_true rfl) (fun s414 w415 hE416 hP417 => ?_) (fun s420 E418 q419 hE416 hP417 => ?_)
        rotate_left
        · exact False.elim hP417
        obtain ⟨r413, rfl, h⟩ := hP417
        refine X_tls ?_
        refine X_aload_n C dL_law_969 rfl 2 rfl (isRV_r _) ?_
        refine X_aload_n C dL_law_970 rfl 0 rfl (isRV_r _) ?_
        refine X_iload_n C dL_law_971 rfl 3 rfl ?_
        refine X_iconst (v := 1) C dL_law_972 rfl ?_
        refine X_iadd C dL_law_973 ?_
        refine X_ialdC C hSc g410 dL_law_974 ?_
        refine X_aload_n C dL_law_975 rfl 0 rfl (isRV_r _) ?_
        refine X_iload_n C dL_law_976 rfl 3 rfl ?_
        refine X_iconst (v := 2) C dL_law_977 rfl ?_
        refine X_iadd C dL_law_978 ?_
        refine X_ialdC C hSc g411 dL_law_979 ?_
        refine X_aload_n C dL_law_980 rfl 0 rfl (isRV_r _) ?_
        refine X_iload_n C dL_law_981 rfl 3 rfl ?_
        refine X_iconst (v := 3) C dL_law_982 rfl ?_
        refine X_iadd C dL_law_983 ?_
        refine X_ialdC C hSc g412 dL_law_984 ?_
        refine X_callVS (ci := 4) (q := (RX4, TX4, 54)) (As := [_, _, _]) (rest := [_]) C rfl (LX_S hX (k := 175) rfl) q2208 q2209 q2210 q136 q2211 ⟨rfl, nm_X4_posterior⟩ rfl dL_law_985 (m_X4_posterior (Cx_l C) hX (d := d - 1) (by omega) s414 (xS ((x3 + 1)).toNatClampNeg) (xS ((x3 + 2)).toNatClampNeg) (xS ((x3 + 3)).toNatClampNeg) h) (by omega) (by decide) (Nat.le_of_ble_eq_true rfl) (fun s422 w423 hE424 hP425 => ?_) (fun s428 E426 q427 hE424 hP425 => ?_)
        rotate_left
        · exact False.elim hP425
        obtain ⟨r421, rfl, h⟩ := hP425
        refine X_tls ?_
        refine X_lcmp_eq (tgt := 1537) C dL_law_988 dL_law_989 (by decide) (fun c429 => ?_) (fun c429 => ?_)
        · have h := h.1 c429
          exact t_L_law_b1537 hX hSc hd C hn hK18 s422 x3 h
        · have h := h.2 c429
          refine X_sub [] (lo2 := []) rfl ?_
          exact hE992 s422 h
      have h := h.2
      by_cases c449 : ((xS (x3).toNatClampNeg) &&& 63) = 21
      · have h := h.1 c449
        refine X_tableIn (tgt := 994) C dL_law_33 (by rw [c449]; decide) (by rw [c449]; decide) (off := 961) (by rw [c449]; rfl) (by decide) ?_
        refine X_aload_n C dL_law_994 rfl 1 rfl (isRV_r _) ?_
        refine X_aload_n C dL_law_995 rfl 0 rfl (isRV_r _) ?_
        refine X_iload_n C dL_law_996 rfl 3 rfl ?_
        refine X_iconst (v := 1) C dL_law_997 rfl ?_
        refine X_iadd C dL_law_998 ?_
        have g431 := h.1
        have h := h.2
        refine X_ialdC C hSc g431 dL_law_999 ?_
        refine X_callVXS (ci := 0) (q := (RX0, TX0, 49)) (As := [_]) (rest := []) C rfl (LX_S hX (k := 0) rfl) q929 q930 q931 q132 q932 ⟨rfl, nm_X0_feed⟩ rfl dL_law_1000 (m_X0_feed (Cx_l C) hX (d := d - 1) (by omega) st (xS ((x3 + 1)).toNatClampNeg) h) (by omega) (by decide) (Nat.le_of_ble_eq_true rfl) (fun s433 w434 hE435 hP436 => ?_) (fun s439 E437 q438 hE435 hP436 => ?_)
        rotate_left
        · exact False.elim hP436
        obtain ⟨r432, rfl, h⟩ := hP436
        refine X_tls ?_
        refine X_aload_n C dL_law_1003 rfl 2 rfl (isRV_r _) ?_
        refine X_aload_n C dL_law_1004 rfl 0 rfl (isRV_r _) ?_
        refine X_iload_n C dL_law_1005 rfl 3 rfl ?_
        refine X_iconst (v := 1) C dL_law_1006 rfl ?_
        refine X_iadd C dL_law_1007 ?_
        refine X_ialdC C hSc g431 dL_law_1008 ?_
        refine X_callVS (ci := 4) (q := (RX4, TX4, 54)) (As := [_]) (rest := [_]) C rfl (LX_S hX (k := 175) rfl) q2213 q2214 q2215 q136 q2216 ⟨rfl, nm_X4_feed⟩ rfl dL_law_1009 (m_X4_feed (Cx_l C) hX (d := d - 1) (by omega) s433 (xS ((x3 + 1)).toNatClampNeg) h) (by omega) (by decide) (Nat.le_of_ble_eq_true rfl) (fun s441 w442 hE443 hP444 => ?_) (fun s447 E445 q446 hE443 hP444 => ?_)
        rotate_left
        · exact False.elim hP444
        obtain ⟨r440, rfl, h⟩ := hP444
        refine X_tls ?_
        refine X_icmp_eq (tgt := 1537) C dL_law_1012 (by decide) (fun c448 => ?_) (fun c448 => ?_)
        · have h := h.1 c448
          exact t_L_law_b1537 hX hSc hd C hn hK18 s441 x3 h
        · have h := h.2 c448
          refine X_sub [] (lo2 := []) rfl ?_
          exact hE1015 s441 h
      have h := h.2
      by_cases c467 : ((xS (x3).toNatClampNeg) &&& 63) = 22
      · have h := h.1 c467
        refine X_tableIn (tgt := 1017) C dL_law_33 (by rw [c467]; decide) (by rw [c467]; decide) (off := 984) (by rw [c467]; rfl) (by decide) ?_
        refine X_aload_n C dL_law_1017 rfl 1 rfl (isRV_r _) ?_
        refine X_callVXS (ci := 0) (q := (RX0, TX0, 49)) (As := []) (rest := []) C rfl (LX_S hX (k := 0) rfl) q934 q935 q936 q132 q937 ⟨rfl, nm_X0_read⟩ rfl dL_law_1018 (m_X0_read (Cx_l C) hX (d := d - 1) (by omega) st h) (by omega) (by decide) (Nat.le_of_ble_eq_true rfl) (fun s451 w452 hE453 hP454 => ?_) (fun s457 E455 q456 hE453 hP454 => ?_)
        rotate_left
        · exact False.elim hP454
        obtain ⟨r450, rfl, h⟩ := hP454
        refine X_tls ?_
        refine X_aload_n C dL_law_1021 rfl 2 rfl (isRV_r _) ?_
        refine X_callVS (ci := 4) (q := (RX4, TX4, 54)) (As := []) (rest := [_]) C rfl (LX_S hX (k := 175) rfl) q2218 q2219 q2220 q136 q2221 ⟨rfl, nm_X4_read⟩ rfl dL_law_1022 (m_X4_read (Cx_l C) hX (d := d - 1) (by omega) s451 h) (by omega) (by decide) (Nat.le_of_ble_eq_true rfl) (fun s459 w460 hE461 hP462 => ?_) (fun s465 E463 q464 hE461 hP462 => ?_)
        rotate_left
        · exact False.elim hP462
        obtain ⟨r458, rfl, h⟩ := hP462
        refine X_tls ?_
        refine X_icmp_eq (tgt := 1537) C dL_law_1025 (by decide) (fun c466 => ?_) (fun c466 => ?_)
        · have h := h.1 c466
          exact t_L_law_b1537 hX hSc hd C hn hK18 s459 x3 h
        · have h := h.2 c466
          refine X_sub [] (lo2 := []) rfl ?_
          exact hE1028 s459 h
      have h := h.2
      by_cases c486 : ((xS (x3).toNatClampNeg) &&& 63) = 23
      · have h := h.1 c486
        refine X_tableIn (tgt := 1030) C dL_law_33 (by rw [c486]; decide) (by rw [c486]; decide) (off := 997) (by rw [c486]; rfl) (by decide) ?_
        refine X_aload_n C dL_law_1030 rfl 1 rfl (isRV_r _) ?_
        refine X_aload_n C dL_law_1031 rfl 0 rfl (isRV_r _) ?_
        refine X_iload_n C dL_law_1032 rfl 3 rfl ?_
        refine X_iconst (v := 1) C dL_law_1033 rfl ?_
        refine X_iadd C dL_law_1034 ?_
        have g468 := h.1
        have h := h.2
        refine X_ialdC C hSc g468 dL_law_1035 ?_
        refine X_callVXS (ci := 0) (q := (RX0, TX0, 49)) (As := [_]) (rest := []) C rfl (LX_S hX (k := 0) rfl) q1303 q1304 q1305 q132 q1306 ⟨rfl, nm_X0_tree⟩ rfl dL_law_1036 (m_X0_tree (Cx_l C) hX (d := d - 1) (by omega) st (xS ((x3 + 1)).toNatClampNeg) h) (by omega) (by decide) (Nat.le_of_ble_eq_true rfl) (fun s470 w471 hE472 hP473 => ?_) (fun s476 E474 q475 hE472 hP473 => ?_)
        rotate_left
        · exact False.elim hP473
        obtain ⟨r469, rfl, h⟩ := hP473
        refine X_tls ?_
        refine X_aload_n C dL_law_1039 rfl 2 rfl (isRV_r _) ?_
        refine X_aload_n C dL_law_1040 rfl 0 rfl (isRV_r _) ?_
        refine X_iload_n C dL_law_1041 rfl 3 rfl ?_
        refine X_iconst (v := 1) C dL_law_1042 rfl ?_
        refine X_iadd C dL_law_1043 ?_
        refine X_ialdC C hSc g468 dL_law_1044 ?_
        refine X_callVS (ci := 4) (q := (RX4, TX4, 54)) (As := [_]) (rest := [_]) C rfl (LX_S hX (k := 175) rfl) q2283 q2284 q2285 q136 q2286 ⟨rfl, nm_X4_tree⟩ rfl dL_law_1045 (m_X4_tree (Cx_l C) hX (d := d - 1) (by omega) s470 (xS ((x3 + 1)).toNatClampNeg) h) (by omega) (by decide) (Nat.le_of_ble_eq_true rfl) (fun s478 w479 hE480 hP481 => ?_) (fun s484 E482 q483 hE480 hP481 => ?_)
        rotate_left
        · exact False.elim hP481
        obtain ⟨r477, rfl, h⟩ := hP481
        refine X_tls ?_
        refine X_icmp_eq (tgt := 1537) C dL_law_1048 (by decide) (fun c485 => ?_) (fun c485 => ?_)
        · have h := h.1 c485
          exact t_L_law_b1537 hX hSc hd C hn hK18 s478 x3 h
        · have h := h.2 c485
          refine X_sub [] (lo2 := []) rfl ?_
          exact hE1051 s478 h
      have h := h.2
      by_cases c506 : ((xS (x3).toNatClampNeg) &&& 63) = 24
      · have h := h.1 c506
        refine X_tableIn (tgt := 1053) C dL_law_33 (by rw [c506]; decide) (by rw [c506]; decide) (off := 1020) (by rw [c506]; rfl) (by decide) ?_
        refine X_aload_n C dL_law_1053 rfl 1 rfl (isRV_r _) ?_
        refine X_aload_n C dL_law_1054 rfl 0 rfl (isRV_r _) ?_
        refine X_iload_n C dL_law_1055 rfl 3 rfl ?_
        refine X_iconst (v := 1) C dL_law_1056 rfl ?_
        refine X_iadd C dL_law_1057 ?_
        have g487 := h.1
        have h := h.2
        refine X_ialdC C hSc g487 dL_law_1058 ?_
        refine X_aload_n C dL_law_1059 rfl 0 rfl (isRV_r _) ?_
        refine X_iload_n C dL_law_1060 rfl 3 rfl ?_
        refine X_iconst (v := 2) C dL_law_1061 rfl ?_
        refine X_iadd C dL_law_1062 ?_
        have g488 := h.1
        have h := h.2
        refine X_ialdC C hSc g488 dL_law_1063 ?_
        refine X_callVXS (ci := 0) (q := (RX0, TX0, 49)) (As := [_, _]) (rest := []) C rfl (LX_S hX (k := 0) rfl) q1327 q1328 q1329 q132 q1330 ⟨rfl, nm_X0_worth⟩ rfl dL_law_1064 (m_X0_worth (Cx_l C) hX (d := d - 1) (by omega) st (xS ((x3 + 1)).toNatClampNeg) (xS ((x3 + 2)).toNatClampNeg) h) (by omega) (by decide) (Nat.le_of_ble_eq_true rfl) (fun s490 w491 hE492 hP493 => ?_) (fun s496 E494 q495 hE492 hP493 => ?_)
        rotate_left
        · exact False.elim hP493
        obtain ⟨r489, rfl, h⟩ := hP493
        refine X_tls ?_
        refine X_aload_n C dL_law_1067 rfl 2 rfl (isRV_r _) ?_
        refine X_aload_n C dL_law_1068 rfl 0 rfl (isRV_r _) ?_
        refine X_iload_n C dL_law_1069 rfl 3 rfl ?_
        refine X_iconst (v := 1) C dL_law_1070 rfl ?_
        refine X_iadd C dL_law_1071 ?_
        refine X_ialdC C hSc g487 dL_law_1072 ?_
        refine X_aload_n C dL_law_1073 rfl 0 rfl (isRV_r _) ?_
        refine X_iload_n C dL_law_1074 rfl 3 rfl ?_
        refine X_iconst (v := 2) C dL_law_1075 rfl ?_
        refine X_iadd C dL_law_1076 ?_
        refine X_ialdC C hSc g488 dL_law_1077 ?_
        refine X_callVS (ci := 4) (q := (RX4, TX4, 54)) (As := [_, _]) (rest := [_]) C rfl (LX_S hX (k := 175) rfl) q2299 q2300 q2301 q136 q2302 ⟨rfl, nm_X4_worth⟩ rfl dL_law_1078 (m_X4_worth (Cx_l C) hX (d := d - 1) (by omega) s490 (xS ((x3 + 1)).toNatClampNeg) (xS ((x3 + 2)).toNatClampNeg) h) (by omega) (by decide) (Nat.le_of_ble_eq_true rfl) (fun s498 w499 hE500 hP501 => ?_) (fun s504 E502 q503 hE500 hP501 => ?_)
        rotate_left
        · exact False.elim hP501
        obtain ⟨r497, rfl, h⟩ := hP501
        refine X_tls ?_
        refine X_lcmp_eq (tgt := 1537) C dL_law_1081 dL_law_1082 (by decide) (fun c505 => ?_) (fun c505 => ?_)
        · have h := h.1 c505
          exact t_L_law_b1537 hX hSc hd C hn hK18 s498 x3 h
        · have h := h.2 c505
          refine X_sub [] (lo2 := []) rfl ?_
          exact hE1085 s498 h
      have h := h.2
      by_cases c526 : ((xS (x3).toNatClampNeg) &&& 63) = 25
      · have h := h.1 c526
        refine X_tableIn (tgt := 1087) C dL_law_33 (by rw [c526]; decide) (by rw [c526]; decide) (off := 1054) (by rw [c526]; rfl) (by decide) ?_
        refine X_aload_n C dL_law_1087 rfl 1 rfl (isRV_r _) ?_
        refine X_aload_n C dL_law_1088 rfl 0 rfl (isRV_r _) ?_
        refine X_iload_n C dL_law_1089 rfl 3 rfl ?_
        refine X_iconst (v := 1) C dL_law_1090 rfl ?_
        refine X_iadd C dL_law_1091 ?_
        have g507 := h.1
        have h := h.2
        refine X_ialdC C hSc g507 dL_law_1092 ?_
        refine X_aload_n C dL_law_1093 rfl 0 rfl (isRV_r _) ?_
        refine X_iload_n C dL_law_1094 rfl 3 rfl ?_
        refine X_iconst (v := 2) C dL_law_1095 rfl ?_
        refine X_iadd C dL_law_1096 ?_
        have g508 := h.1
        have h := h.2
        refine X_ialdC C hSc g508 dL_law_1097 ?_
        refine X_callVXS (ci := 0) (q := (RX0, TX0, 49)) (As := [_, _]) (rest := []) C rfl (LX_S hX (k := 0) rfl) q1343 q1344 q1345 q132 q1346 ⟨rfl, nm_X0_line⟩ rfl dL_law_1098 (m_X0_line (Cx_l C) hX (d := d - 1) (by omega) st (xS ((x3 + 1)).toNatClampNeg) (xS ((x3 + 2)).toNatClampNeg) h) (by omega) (by decide) (Nat.le_of_ble_eq_true rfl) (fun s510 w511 hE512 hP513 => ?_) (fun s516 E514 q515 hE512 hP513 => ?_)
        rotate_left
        · exact False.elim hP513
        obtain ⟨r509, rfl, h⟩ := hP513
        refine X_tls ?_
        refine X_aload_n C dL_law_1101 rfl 2 rfl (isRV_r _) ?_
        refine X_aload_n C dL_law_1102 rfl 0 rfl (isRV_r _) ?_
        refine X_iload_n C dL_law_1103 rfl 3 rfl ?_
        refine X_iconst (v := 1) C dL_law_1104 rfl ?_
        refine X_iadd C dL_law_1105 ?_
        refine X_ialdC C hSc g507 dL_law_1106 ?_
        refine X_aload_n C dL_law_1107 rfl 0 rfl (isRV_r _) ?_
        refine X_iload_n C dL_law_1108 rfl 3 rfl ?_
        refine X_iconst (v := 2) C dL_law_1109 rfl ?_
        refine X_iadd C dL_law_1110 ?_
        refine X_ialdC C hSc g508 dL_law_1111 ?_
        refine X_callVS (ci := 4) (q := (RX4, TX4, 54)) (As := [_, _]) (rest := [_]) C rfl (LX_S hX (k := 175) rfl) q2311 q2312 q2313 q136 q2314 ⟨rfl, nm_X4_line⟩ rfl dL_law_1112 (m_X4_line (Cx_l C) hX (d := d - 1) (by omega) s510 (xS ((x3 + 1)).toNatClampNeg) (xS ((x3 + 2)).toNatClampNeg) h) (by omega) (by decide) (Nat.le_of_ble_eq_true rfl) (fun s518 w519 hE520 hP521 => ?_) (fun s524 E522 q523 hE520 hP521 => ?_)
        rotate_left
        · exact False.elim hP521
        obtain ⟨r517, rfl, h⟩ := hP521
        refine X_tls ?_
        refine X_icmp_eq (tgt := 1537) C dL_law_1115 (by decide) (fun c525 => ?_) (fun c525 => ?_)
        · have h := h.1 c525
          exact t_L_law_b1537 hX hSc hd C hn hK18 s518 x3 h
        · have h := h.2 c525
          refine X_sub [] (lo2 := []) rfl ?_
          exact hE1118 s518 h
      have h := h.2
      by_cases c545 : ((xS (x3).toNatClampNeg) &&& 63) = 26
      · have h := h.1 c545
        refine X_tableIn (tgt := 1120) C dL_law_33 (by rw [c545]; decide) (by rw [c545]; decide) (off := 1087) (by rw [c545]; rfl) (by decide) ?_
        refine X_aload_n C dL_law_1120 rfl 1 rfl (isRV_r _) ?_
        refine X_aload_n C dL_law_1121 rfl 0 rfl (isRV_r _) ?_
        refine X_iload_n C dL_law_1122 rfl 3 rfl ?_
        refine X_iconst (v := 1) C dL_law_1123 rfl ?_
        refine X_iadd C dL_law_1124 ?_
        have g527 := h.1
        have h := h.2
        refine X_ialdC C hSc g527 dL_law_1125 ?_
        refine X_callVXS (ci := 0) (q := (RX0, TX0, 49)) (As := [_]) (rest := []) C rfl (LX_S hX (k := 0) rfl) q1603 q1604 q1605 q132 q1606 ⟨rfl, nm_X0_letter⟩ rfl dL_law_1126 (m_X0_letter (Cx_l C) hX (d := d - 1) (by omega) st (xS ((x3 + 1)).toNatClampNeg) h) (by omega) (by decide) (Nat.le_of_ble_eq_true rfl) (fun s529 w530 hE531 hP532 => ?_) (fun s535 E533 q534 hE531 hP532 => ?_)
        rotate_left
        · exact False.elim hP532
        obtain ⟨r528, rfl, h⟩ := hP532
        refine X_tls ?_
        refine X_aload_n C dL_law_1129 rfl 2 rfl (isRV_r _) ?_
        refine X_aload_n C dL_law_1130 rfl 0 rfl (isRV_r _) ?_
        refine X_iload_n C dL_law_1131 rfl 3 rfl ?_
        refine X_iconst (v := 1) C dL_law_1132 rfl ?_
        refine X_iadd C dL_law_1133 ?_
        refine X_ialdC C hSc g527 dL_law_1134 ?_
        refine X_callVS (ci := 4) (q := (RX4, TX4, 54)) (As := [_]) (rest := [_]) C rfl (LX_S hX (k := 175) rfl) q2347 q2348 q2349 q136 q2350 ⟨rfl, nm_X4_letter⟩ rfl dL_law_1135 (m_X4_letter (Cx_l C) hX (d := d - 1) (by omega) s529 (xS ((x3 + 1)).toNatClampNeg) h) (by omega) (by decide) (Nat.le_of_ble_eq_true rfl) (fun s537 w538 hE539 hP540 => ?_) (fun s543 E541 q542 hE539 hP540 => ?_)
        rotate_left
        · exact False.elim hP540
        obtain ⟨r536, rfl, h⟩ := hP540
        refine X_tls ?_
        refine X_icmp_eq (tgt := 1537) C dL_law_1138 (by decide) (fun c544 => ?_) (fun c544 => ?_)
        · have h := h.1 c544
          exact t_L_law_b1537 hX hSc hd C hn hK18 s537 x3 h
        · have h := h.2 c544
          refine X_sub [] (lo2 := []) rfl ?_
          exact hE1141 s537 h
      have h := h.2
      by_cases c564 : ((xS (x3).toNatClampNeg) &&& 63) = 27
      · have h := h.1 c564
        refine X_tableIn (tgt := 1143) C dL_law_33 (by rw [c564]; decide) (by rw [c564]; decide) (off := 1110) (by rw [c564]; rfl) (by decide) ?_
        refine X_aload_n C dL_law_1143 rfl 1 rfl (isRV_r _) ?_
        refine X_aload_n C dL_law_1144 rfl 0 rfl (isRV_r _) ?_
        refine X_iload_n C dL_law_1145 rfl 3 rfl ?_
        refine X_iconst (v := 1) C dL_law_1146 rfl ?_
        refine X_iadd C dL_law_1147 ?_
        have g546 := h.1
        have h := h.2
        refine X_ialdC C hSc g546 dL_law_1148 ?_
        refine X_callVS (ci := 0) (q := (RX0, TX0, 49)) (As := [_]) (rest := []) C rfl (LX_S hX (k := 0) rfl) q1634 q1635 q1636 q132 q1637 ⟨rfl, nm_X0_letters⟩ rfl dL_law_1149 (m_X0_letters (Cx_l C) hX (d := d - 1) (by omega) st (xS ((x3 + 1)).toNatClampNeg) h) (by omega) (by decide) (Nat.le_of_ble_eq_true rfl) (fun s548 w549 hE550 hP551 => ?_) (fun s554 E552 q553 hE550 hP551 => ?_)
        rotate_left
        · exact False.elim hP551
        obtain ⟨r547, rfl, h⟩ := hP551
        refine X_tls ?_
        refine X_aload_n C dL_law_1152 rfl 2 rfl (isRV_r _) ?_
        refine X_aload_n C dL_law_1153 rfl 0 rfl (isRV_r _) ?_
        refine X_iload_n C dL_law_1154 rfl 3 rfl ?_
        refine X_iconst (v := 1) C dL_law_1155 rfl ?_
        refine X_iadd C dL_law_1156 ?_
        refine X_ialdC C hSc g546 dL_law_1157 ?_
        refine X_callVS (ci := 4) (q := (RX4, TX4, 54)) (As := [_]) (rest := [_]) C rfl (LX_S hX (k := 175) rfl) q2351 q2352 q2353 q136 q2354 ⟨rfl, nm_X4_letters⟩ rfl dL_law_1158 (m_X4_letters (Cx_l C) hX (d := d - 1) (by omega) s548 (xS ((x3 + 1)).toNatClampNeg) h) (by omega) (by decide) (Nat.le_of_ble_eq_true rfl) (fun s556 w557 hE558 hP559 => ?_) (fun s562 E560 q561 hE558 hP559 => ?_)
        rotate_left
        · exact False.elim hP559
        obtain ⟨r555, rfl, h⟩ := hP559
        refine X_tls ?_
        refine X_icmp_eq (tgt := 1537) C dL_law_1161 (by decide) (fun c563 => ?_) (fun c563 => ?_)
        · have h := h.1 c563
          exact t_L_law_b1537 hX hSc hd C hn hK18 s556 x3 h
        · have h := h.2 c563
          refine X_sub [] (lo2 := []) rfl ?_
          exact hE1164 s556 h
      have h := h.2
      by_cases c582 : ((xS (x3).toNatClampNeg) &&& 63) = 28
      · have h := h.1 c582
        refine X_tableIn (tgt := 1166) C dL_law_33 (by rw [c582]; decide) (by rw [c582]; decide) (off := 1133) (by rw [c582]; rfl) (by decide) ?_
        refine X_aload_n C dL_law_1166 rfl 1 rfl (isRV_r _) ?_
        refine X_callVS (ci := 0) (q := (RX0, TX0, 49)) (As := []) (rest := []) C rfl (LX_S hX (k := 0) rfl) q1638 q1639 q1640 q132 q1641 ⟨rfl, nm_X0_begin⟩ rfl dL_law_1167 (m_X0_begin (Cx_l C) hX (d := d - 1) (by omega) st h) (by omega) (by decide) (Nat.le_of_ble_eq_true rfl) (fun s566 w567 hE568 hP569 => ?_) (fun s572 E570 q571 hE568 hP569 => ?_)
        rotate_left
        · exact False.elim hP569
        obtain ⟨r565, rfl, h⟩ := hP569
        refine X_tls ?_
        refine X_aload_n C dL_law_1170 rfl 2 rfl (isRV_r _) ?_
        refine X_callVS (ci := 4) (q := (RX4, TX4, 54)) (As := []) (rest := [_]) C rfl (LX_S hX (k := 175) rfl) q2355 q2356 q2357 q136 q2358 ⟨rfl, nm_X4_begin⟩ rfl dL_law_1171 (m_X4_begin (Cx_l C) hX (d := d - 1) (by omega) s566 h) (by omega) (by decide) (Nat.le_of_ble_eq_true rfl) (fun s574 w575 hE576 hP577 => ?_) (fun s580 E578 q579 hE576 hP577 => ?_)
        rotate_left
        · exact False.elim hP577
        obtain ⟨r573, rfl, h⟩ := hP577
        refine X_tls ?_
        refine X_icmp_eq (tgt := 1537) C dL_law_1174 (by decide) (fun c581 => ?_) (fun c581 => ?_)
        · have h := h.1 c581
          exact t_L_law_b1537 hX hSc hd C hn hK18 s574 x3 h
        · have h := h.2 c581
          refine X_sub [] (lo2 := []) rfl ?_
          exact hE1177 s574 h
      have h := h.2
      by_cases c601 : ((xS (x3).toNatClampNeg) &&& 63) = 29
      · have h := h.1 c601
        refine X_tableIn (tgt := 1179) C dL_law_33 (by rw [c601]; decide) (by rw [c601]; decide) (off := 1146) (by rw [c601]; rfl) (by decide) ?_
        refine X_aload_n C dL_law_1179 rfl 1 rfl (isRV_r _) ?_
        refine X_aload_n C dL_law_1180 rfl 0 rfl (isRV_r _) ?_
        refine X_iload_n C dL_law_1181 rfl 3 rfl ?_
        refine X_iconst (v := 1) C dL_law_1182 rfl ?_
        refine X_iadd C dL_law_1183 ?_
        have g583 := h.1
        have h := h.2
        refine X_ialdC C hSc g583 dL_law_1184 ?_
        refine X_callVXS (ci := 0) (q := (RX0, TX0, 49)) (As := [_]) (rest := []) C rfl (LX_S hX (k := 0) rfl) q1642 q1643 q1644 q132 q1645 ⟨rfl, nm_X0_round⟩ rfl dL_law_1185 (m_X0_round (Cx_l C) hX (d := d - 1) (by omega) st (xS ((x3 + 1)).toNatClampNeg) h) (by omega) (by decide) (Nat.le_of_ble_eq_true rfl) (fun s585 w586 hE587 hP588 => ?_) (fun s591 E589 q590 hE587 hP588 => ?_)
        rotate_left
        · exact False.elim hP588
        obtain ⟨r584, rfl, h⟩ := hP588
        refine X_tls ?_
        refine X_aload_n C dL_law_1188 rfl 2 rfl (isRV_r _) ?_
        refine X_aload_n C dL_law_1189 rfl 0 rfl (isRV_r _) ?_
        refine X_iload_n C dL_law_1190 rfl 3 rfl ?_
        refine X_iconst (v := 1) C dL_law_1191 rfl ?_
        refine X_iadd C dL_law_1192 ?_
        refine X_ialdC C hSc g583 dL_law_1193 ?_
        refine X_callVS (ci := 4) (q := (RX4, TX4, 54)) (As := [_]) (rest := [_]) C rfl (LX_S hX (k := 175) rfl) q2359 q2360 q2361 q136 q2362 ⟨rfl, nm_X4_round⟩ rfl dL_law_1194 (m_X4_round (Cx_l C) hX (d := d - 1) (by omega) s585 (xS ((x3 + 1)).toNatClampNeg) h) (by omega) (by decide) (Nat.le_of_ble_eq_true rfl) (fun s593 w594 hE595 hP596 => ?_) (fun s599 E597 q598 hE595 hP596 => ?_)
        rotate_left
        · exact False.elim hP596
        obtain ⟨r592, rfl, h⟩ := hP596
        refine X_tls ?_
        refine X_icmp_eq (tgt := 1537) C dL_law_1197 (by decide) (fun c600 => ?_) (fun c600 => ?_)
        · have h := h.1 c600
          exact t_L_law_b1537 hX hSc hd C hn hK18 s593 x3 h
        · have h := h.2 c600
          refine X_sub [] (lo2 := []) rfl ?_
          exact hE1200 s593 h
      have h := h.2
      by_cases c619 : ((xS (x3).toNatClampNeg) &&& 63) = 30
      · have h := h.1 c619
        refine X_tableIn (tgt := 1202) C dL_law_33 (by rw [c619]; decide) (by rw [c619]; decide) (off := 1169) (by rw [c619]; rfl) (by decide) ?_
        refine X_aload_n C dL_law_1202 rfl 1 rfl (isRV_r _) ?_
        refine X_callVXS (ci := 0) (q := (RX0, TX0, 49)) (As := []) (rest := []) C rfl (LX_S hX (k := 0) rfl) q1696 q1697 q1698 q132 q1699 ⟨rfl, nm_X0_back⟩ rfl dL_law_1203 (m_X0_back (Cx_l C) hX (d := d - 1) (by omega) st h) (by omega) (by decide) (Nat.le_of_ble_eq_true rfl) (fun s603 w604 hE605 hP606 => ?_) (fun s609 E607 q608 hE605 hP606 => ?_)
        rotate_left
        · exact False.elim hP606
        obtain ⟨r602, rfl, h⟩ := hP606
        refine X_tls ?_
        refine X_aload_n C dL_law_1206 rfl 2 rfl (isRV_r _) ?_
        refine X_callVS (ci := 4) (q := (RX4, TX4, 54)) (As := []) (rest := [_]) C rfl (LX_S hX (k := 175) rfl) q2377 q2378 q2379 q136 q2380 ⟨rfl, nm_X4_back⟩ rfl dL_law_1207 (m_X4_back (Cx_l C) hX (d := d - 1) (by omega) s603 h) (by omega) (by decide) (Nat.le_of_ble_eq_true rfl) (fun s611 w612 hE613 hP614 => ?_) (fun s617 E615 q616 hE613 hP614 => ?_)
        rotate_left
        · exact False.elim hP614
        obtain ⟨r610, rfl, h⟩ := hP614
        refine X_tls ?_
        refine X_icmp_eq (tgt := 1537) C dL_law_1210 (by decide) (fun c618 => ?_) (fun c618 => ?_)
        · have h := h.1 c618
          exact t_L_law_b1537 hX hSc hd C hn hK18 s611 x3 h
        · have h := h.2 c618
          refine X_sub [] (lo2 := []) rfl ?_
          exact hE1213 s611 h
      have h := h.2
      by_cases c638 : ((xS (x3).toNatClampNeg) &&& 63) = 31
      · have h := h.1 c638
        refine X_tableIn (tgt := 1215) C dL_law_33 (by rw [c638]; decide) (by rw [c638]; decide) (off := 1182) (by rw [c638]; rfl) (by decide) ?_
        refine X_aload_n C dL_law_1215 rfl 1 rfl (isRV_r _) ?_
        refine X_aload_n C dL_law_1216 rfl 0 rfl (isRV_r _) ?_
        refine X_iload_n C dL_law_1217 rfl 3 rfl ?_
        refine X_iconst (v := 1) C dL_law_1218 rfl ?_
        refine X_iadd C dL_law_1219 ?_
        have g620 := h.1
        have h := h.2
        refine X_ialdC C hSc g620 dL_law_1220 ?_
        refine X_callVXS (ci := 0) (q := (RX0, TX0, 49)) (As := [_]) (rest := []) C rfl (LX_S hX (k := 0) rfl) q1700 q1701 q1702 q132 q1703 ⟨rfl, nm_X0_played⟩ rfl dL_law_1221 (m_X0_played (Cx_l C) hX (d := d - 1) (by omega) st (xS ((x3 + 1)).toNatClampNeg) h) (by omega) (by decide) (Nat.le_of_ble_eq_true rfl) (fun s622 w623 hE624 hP625 => ?_) (fun s628 E626 q627 hE624 hP625 => ?_)
        rotate_left
        · exact False.elim hP625
        obtain ⟨r621, rfl, h⟩ := hP625
        refine X_tls ?_
        refine X_aload_n C dL_law_1224 rfl 2 rfl (isRV_r _) ?_
        refine X_aload_n C dL_law_1225 rfl 0 rfl (isRV_r _) ?_
        refine X_iload_n C dL_law_1226 rfl 3 rfl ?_
        refine X_iconst (v := 1) C dL_law_1227 rfl ?_
        refine X_iadd C dL_law_1228 ?_
        refine X_ialdC C hSc g620 dL_law_1229 ?_
        refine X_callVS (ci := 4) (q := (RX4, TX4, 54)) (As := [_]) (rest := [_]) C rfl (LX_S hX (k := 175) rfl) q2381 q2382 q2383 q136 q2384 ⟨rfl, nm_X4_played⟩ rfl dL_law_1230 (m_X4_played (Cx_l C) hX (d := d - 1) (by omega) s622 (xS ((x3 + 1)).toNatClampNeg) h) (by omega) (by decide) (Nat.le_of_ble_eq_true rfl) (fun s630 w631 hE632 hP633 => ?_) (fun s636 E634 q635 hE632 hP633 => ?_)
        rotate_left
        · exact False.elim hP633
        obtain ⟨r629, rfl, h⟩ := hP633
        refine X_tls ?_
        refine X_icmp_eq (tgt := 1537) C dL_law_1233 (by decide) (fun c637 => ?_) (fun c637 => ?_)
        · have h := h.1 c637
          exact t_L_law_b1537 hX hSc hd C hn hK18 s630 x3 h
        · have h := h.2 c637
          refine X_sub [] (lo2 := []) rfl ?_
          exact hE1236 s630 h
      have h := h.2
      by_cases c660 : ((xS (x3).toNatClampNeg) &&& 63) = 32
      · have h := h.1 c660
        refine X_tableIn (tgt := 1238) C dL_law_33 (by rw [c660]; decide) (by rw [c660]; decide) (off := 1205) (by rw [c660]; rfl) (by decide) ?_
        refine X_aload_n C dL_law_1238 rfl 1 rfl (isRV_r _) ?_
        refine X_aload_n C dL_law_1239 rfl 0 rfl (isRV_r _) ?_
        refine X_iload_n C dL_law_1240 rfl 3 rfl ?_
        refine X_iconst (v := 1) C dL_law_1241 rfl ?_
        refine X_iadd C dL_law_1242 ?_
        have g639 := h.1
        have h := h.2
        refine X_ialdC C hSc g639 dL_law_1243 ?_
        refine X_aload_n C dL_law_1244 rfl 0 rfl (isRV_r _) ?_
        refine X_iload_n C dL_law_1245 rfl 3 rfl ?_
        refine X_iconst (v := 2) C dL_law_1246 rfl ?_
        refine X_iadd C dL_law_1247 ?_
        have g640 := h.1
        have h := h.2
        refine X_ialdC C hSc g640 dL_law_1248 ?_
        refine X_aload_n C dL_law_1249 rfl 0 rfl (isRV_r _) ?_
        refine X_iload_n C dL_law_1250 rfl 3 rfl ?_
        refine X_iconst (v := 3) C dL_law_1251 rfl ?_
        refine X_iadd C dL_law_1252 ?_
        have g641 := h.1
        have h := h.2
        refine X_ialdC C hSc g641 dL_law_1253 ?_
        refine X_aload_n C dL_law_1254 rfl 0 rfl (isRV_r _) ?_
        refine X_iload_n C dL_law_1255 rfl 3 rfl ?_
        refine X_iconst (v := 4) C dL_law_1256 rfl ?_
        refine X_iadd C dL_law_1257 ?_
        have g642 := h.1
        have h := h.2
        refine X_ialdC C hSc g642 dL_law_1258 ?_
        refine X_callVXS (ci := 0) (q := (RX0, TX0, 49)) (As := [_, _, _, _]) (rest := []) C rfl (LX_S hX (k := 0) rfl) q1705 q1706 q1707 q132 q1708 ⟨rfl, nm_X0_replay⟩ rfl dL_law_1259 (m_X0_replay (Cx_l C) hX (d := d - 1) (by omega) st (xS ((x3 + 1)).toNatClampNeg) (xS ((x3 + 2)).toNatClampNeg) (xS ((x3 + 3)).toNatClampNeg) (xS ((x3 + 4)).toNatClampNeg) h) (by omega) (by decide) (Nat.le_of_ble_eq_true rfl) (fun s644 w645 hE646 hP647 => ?_) (fun s650 E648 q649 hE646 hP647 => ?_)
        rotate_left
        · exact False.elim hP647
        obtain ⟨r643, rfl, h⟩ := hP647
        refine X_tls ?_
        refine X_aload_n C dL_law_1262 rfl 2 rfl (isRV_r _) ?_
        refine X_aload_n C dL_law_1263 rfl 0 rfl (isRV_r _) ?_
        refine X_iload_n C dL_law_1264 rfl 3 rfl ?_
        refine X_iconst (v := 1) C dL_law_1265 rfl ?_
        refine X_iadd C dL_law_1266 ?_
        refine X_ialdC C hSc g639 dL_law_1267 ?_
        refine X_aload_n C dL_law_1268 rfl 0 rfl (isRV_r _) ?_
        refine X_iload_n C dL_law_1269 rfl 3 rfl ?_
        refine X_iconst (v := 2) C dL_law_1270 rfl ?_
        refine X_iadd C dL_law_1271 ?_
        refine X_ialdC C hSc g640 dL_law_1272 ?_
        refine X_aload_n C dL_law_1273 rfl 0 rfl (isRV_r _) ?_
        refine X_iload_n C dL_law_1274 rfl 3 rfl ?_
        refine X_iconst (v := 3) C dL_law_1275 rfl ?_
        refine X_iadd C dL_law_1276 ?_
        refine X_ialdC C hSc g641 dL_law_1277 ?_
        refine X_aload_n C dL_law_1278 rfl 0 rfl (isRV_r _) ?_
        refine X_iload_n C dL_law_1279 rfl 3 rfl ?_
        refine X_iconst (v := 4) C dL_law_1280 rfl ?_
        refine X_iadd C dL_law_1281 ?_
        refine X_ialdC C hSc g642 dL_law_1282 ?_
        refine X_callVS (ci := 4) (q := (RX4, TX4, 54)) (As := [_, _, _, _]) (rest := [_]) C rfl (LX_S hX (k := 175) rfl) q2386 q2387 q2388 q136 q2389 ⟨rfl, nm_X4_replay⟩ rfl dL_law_1283 (m_X4_replay (Cx_l C) hX (d := d - 1) (by omega) s644 (xS ((x3 + 1)).toNatClampNeg) (xS ((x3 + 2)).toNatClampNeg) (xS ((x3 + 3)).toNatClampNeg) (xS ((x3 + 4)).toNatClampNeg) h) (by omega) (by decide) (Nat.le_of_ble_eq_true rfl) (fun s652 w653 hE654 hP655 => ?_) (fun s658 E656 q657 hE654 hP655 => ?_)
        rotate_left
        · exact False.elim hP655
        obtain ⟨r651, rfl, h⟩ := hP655
        refine X_tls ?_
        refine X_lcmp_eq (tgt := 1537) C dL_law_1286 dL_law_1287 (by decide) (fun c659 => ?_) (fun c659 => ?_)
        · have h := h.1 c659
          exact t_L_law_b1537 hX hSc hd C hn hK18 s652 x3 h
        · have h := h.2 c659
          refine X_sub [] (lo2 := []) rfl ?_
          exact hE1290 s652 h
      have h := h.2
      by_cases c681 : ((xS (x3).toNatClampNeg) &&& 63) = 33
      · have h := h.1 c681
        refine X_tableIn (tgt := 1292) C dL_law_33 (by rw [c681]; decide) (by rw [c681]; decide) (off := 1259) (by rw [c681]; rfl) (by decide) ?_
        refine X_aload_n C dL_law_1292 rfl 1 rfl (isRV_r _) ?_
        refine X_aload_n C dL_law_1293 rfl 0 rfl (isRV_r _) ?_
        refine X_iload_n C dL_law_1294 rfl 3 rfl ?_
        refine X_iconst (v := 1) C dL_law_1295 rfl ?_
        refine X_iadd C dL_law_1296 ?_
        have g661 := h.1
        have h := h.2
        refine X_ialdC C hSc g661 dL_law_1297 ?_
        refine X_aload_n C dL_law_1298 rfl 0 rfl (isRV_r _) ?_
        refine X_iload_n C dL_law_1299 rfl 3 rfl ?_
        refine X_iconst (v := 2) C dL_law_1300 rfl ?_
        refine X_iadd C dL_law_1301 ?_
        have g662 := h.1
        have h := h.2
        refine X_ialdC C hSc g662 dL_law_1302 ?_
        refine X_aload_n C dL_law_1303 rfl 0 rfl (isRV_r _) ?_
        refine X_iload_n C dL_law_1304 rfl 3 rfl ?_
        refine X_iconst (v := 3) C dL_law_1305 rfl ?_
        refine X_iadd C dL_law_1306 ?_
        have g663 := h.1
        have h := h.2
        refine X_ialdC C hSc g663 dL_law_1307 ?_
        refine X_callVXS (ci := 0) (q := (RX0, TX0, 49)) (As := [_, _, _]) (rest := []) C rfl (LX_S hX (k := 0) rfl) q1717 q1718 q1719 q132 q1720 ⟨rfl, nm_X0_sheet⟩ rfl dL_law_1308 (m_X0_sheet (Cx_l C) hX (d := d - 1) (by omega) st (xS ((x3 + 1)).toNatClampNeg) (xS ((x3 + 2)).toNatClampNeg) (xS ((x3 + 3)).toNatClampNeg) h) (by omega) (by decide) (Nat.le_of_ble_eq_true rfl) (fun s665 w666 hE667 hP668 => ?_) (fun s671 E669 q670 hE667 hP668 => ?_)
        rotate_left
        · exact False.elim hP668
        obtain ⟨r664, rfl, h⟩ := hP668
        refine X_tls ?_
        refine X_aload_n C dL_law_1311 rfl 2 rfl (isRV_r _) ?_
        refine X_aload_n C dL_law_1312 rfl 0 rfl (isRV_r _) ?_
        refine X_iload_n C dL_law_1313 rfl 3 rfl ?_
        refine X_iconst (v := 1) C dL_law_1314 rfl ?_
        refine X_iadd C dL_law_1315 ?_
        refine X_ialdC C hSc g661 dL_law_1316 ?_
        refine X_aload_n C dL_law_1317 rfl 0 rfl (isRV_r _) ?_
        refine X_iload_n C dL_law_1318 rfl 3 rfl ?_
        refine X_iconst (v := 2) C dL_law_1319 rfl ?_
        refine X_iadd C dL_law_1320 ?_
        refine X_ialdC C hSc g662 dL_law_1321 ?_
        refine X_aload_n C dL_law_1322 rfl 0 rfl (isRV_r _) ?_
        refine X_iload_n C dL_law_1323 rfl 3 rfl ?_
        refine X_iconst (v := 3) C dL_law_1324 rfl ?_
        refine X_iadd C dL_law_1325 ?_
        refine X_ialdC C hSc g663 dL_law_1326 ?_
        refine X_callVS (ci := 4) (q := (RX4, TX4, 54)) (As := [_, _, _]) (rest := [_]) C rfl (LX_S hX (k := 175) rfl) q2390 q2391 q2392 q136 q2393 ⟨rfl, nm_X4_sheet⟩ rfl dL_law_1327 (m_X4_sheet (Cx_l C) hX (d := d - 1) (by omega) s665 (xS ((x3 + 1)).toNatClampNeg) (xS ((x3 + 2)).toNatClampNeg) (xS ((x3 + 3)).toNatClampNeg) h) (by omega) (by decide) (Nat.le_of_ble_eq_true rfl) (fun s673 w674 hE675 hP676 => ?_) (fun s679 E677 q678 hE675 hP676 => ?_)
        rotate_left
        · exact False.elim hP676
        obtain ⟨r672, rfl, h⟩ := hP676
        refine X_tls ?_
        refine X_icmp_eq (tgt := 1537) C dL_law_1330 (by decide) (fun c680 => ?_) (fun c680 => ?_)
        · have h := h.1 c680
          exact t_L_law_b1537 hX hSc hd C hn hK18 s673 x3 h
        · have h := h.2 c680
          refine X_sub [] (lo2 := []) rfl ?_
          exact hE1333 s673 h
      have h := h.2
      by_cases c703 : ((xS (x3).toNatClampNeg) &&& 63) = 34
      · have h := h.1 c703
        refine X_tableIn (tgt := 1335) C dL_law_33 (by rw [c703]; decide) (by rw [c703]; decide) (off := 1302) (by rw [c703]; rfl) (by decide) ?_
        refine X_aload_n C dL_law_1335 rfl 1 rfl (isRV_r _) ?_
        refine X_aload_n C dL_law_1336 rfl 0 rfl (isRV_r _) ?_
        refine X_iload_n C dL_law_1337 rfl 3 rfl ?_
        refine X_iconst (v := 1) C dL_law_1338 rfl ?_
        refine X_iadd C dL_law_1339 ?_
        have g682 := h.1
        have h := h.2
        refine X_ialdC C hSc g682 dL_law_1340 ?_
        refine X_aload_n C dL_law_1341 rfl 0 rfl (isRV_r _) ?_
        refine X_iload_n C dL_law_1342 rfl 3 rfl ?_
        refine X_iconst (v := 2) C dL_law_1343 rfl ?_
        refine X_iadd C dL_law_1344 ?_
        have g683 := h.1
        have h := h.2
        refine X_ialdC C hSc g683 dL_law_1345 ?_
        refine X_aload_n C dL_law_1346 rfl 0 rfl (isRV_r _) ?_
        refine X_iload_n C dL_law_1347 rfl 3 rfl ?_
        refine X_iconst (v := 3) C dL_law_1348 rfl ?_
        refine X_iadd C dL_law_1349 ?_
        have g684 := h.1
        have h := h.2
        refine X_ialdC C hSc g684 dL_law_1350 ?_
        refine X_i2l C dL_law_1351 ?_
        refine X_bipush (v := 32) C dL_law_1352 rfl ?_
        refine X_lshl C dL_law_1354 ?_
        refine X_aload_n C dL_law_1355 rfl 0 rfl (isRV_r _) ?_
        refine X_iload_n C dL_law_1356 rfl 3 rfl ?_
        refine X_iconst (v := 4) C dL_law_1357 rfl ?_
        refine X_iadd C dL_law_1358 ?_
        have g685 := h.1
        have h := h.2
        refine X_ialdC C hSc g685 dL_law_1359 ?_
        refine X_i2l C dL_law_1360 ?_
        refine X_ldc2 C q2427 dL_law_1361 ?_
        refine X_land C dL_law_1364 ?_
        refine X_lor C dL_law_1365 ?_
        refine X_callVXS (ci := 0) (q := (RX0, TX0, 49)) (As := [_, _, _]) (rest := []) C rfl (LX_S hX (k := 0) rfl) q1726 q1727 q1728 q132 q1729 ⟨rfl, nm_X0_put⟩ rfl dL_law_1366 (m_X0_put (Cx_l C) hX (d := d - 1) (by omega) st (xS ((x3 + 1)).toNatClampNeg) (xS ((x3 + 2)).toNatClampNeg) (((xS ((x3 + 3)).toNatClampNeg).toInt64 <<< ((32 : Int32).toInt64 &&& 63)) ||| ((xS ((x3 + 4)).toNatClampNeg).toInt64 &&& 4294967295)) h) (by omega) (by decide) (Nat.le_of_ble_eq_true rfl) (fun s687 w688 hE689 hP690 => ?_) (fun s693 E691 q692 hE689 hP690 => ?_)
        rotate_left
        · exact False.elim hP690
        obtain ⟨r686, rfl, h⟩ := hP690
        refine X_tls ?_
        refine X_aload_n C dL_law_1369 rfl 2 rfl (isRV_r _) ?_
        refine X_aload_n C dL_law_1370 rfl 0 rfl (isRV_r _) ?_
        refine X_iload_n C dL_law_1371 rfl 3 rfl ?_
        refine X_iconst (v := 1) C dL_law_1372 rfl ?_
        refine X_iadd C dL_law_1373 ?_
        refine X_ialdC C hSc g682 dL_law_1374 ?_
        refine X_aload_n C dL_law_1375 rfl 0 rfl (isRV_r _) ?_
        refine X_iload_n C dL_law_1376 rfl 3 rfl ?_
        refine X_iconst (v := 2) C dL_law_1377 rfl ?_
        refine X_iadd C dL_law_1378 ?_
        refine X_ialdC C hSc g683 dL_law_1379 ?_
        refine X_aload_n C dL_law_1380 rfl 0 rfl (isRV_r _) ?_
        refine X_iload_n C dL_law_1381 rfl 3 rfl ?_
        refine X_iconst (v := 3) C dL_law_1382 rfl ?_
        refine X_iadd C dL_law_1383 ?_
        refine X_ialdC C hSc g684 dL_law_1384 ?_
        refine X_i2l C dL_law_1385 ?_
        refine X_bipush (v := 32) C dL_law_1386 rfl ?_
        refine X_lshl C dL_law_1388 ?_
        refine X_aload_n C dL_law_1389 rfl 0 rfl (isRV_r _) ?_
        refine X_iload_n C dL_law_1390 rfl 3 rfl ?_
        refine X_iconst (v := 4) C dL_law_1391 rfl ?_
        refine X_iadd C dL_law_1392 ?_
        refine X_ialdC C hSc g685 dL_law_1393 ?_
        refine X_i2l C dL_law_1394 ?_
        refine X_ldc2 C q2427 dL_law_1395 ?_
        refine X_land C dL_law_1398 ?_
        refine X_lor C dL_law_1399 ?_
        refine X_callVS (ci := 4) (q := (RX4, TX4, 54)) (As := [_, _, _]) (rest := [_]) C rfl (LX_S hX (k := 175) rfl) q2394 q2395 q2396 q136 q2397 ⟨rfl, nm_X4_put⟩ rfl dL_law_1400 (m_X4_put (Cx_l C) hX (d := d - 1) (by omega) s687 (xS ((x3 + 1)).toNatClampNeg) (xS ((x3 + 2)).toNatClampNeg) (((xS ((x3 + 3)).toNatClampNeg).toInt64 <<< ((32 : Int32).toInt64 &&& 63)) ||| ((xS ((x3 + 4)).toNatClampNeg).toInt64 &&& 4294967295)) h) (by omega) (by decide) (Nat.le_of_ble_eq_true rfl) (fun s695 w696 hE697 hP698 => ?_) (fun s701 E699 q700 hE697 hP698 => ?_)
        rotate_left
        · exact False.elim hP698
        obtain ⟨r694, rfl, h⟩ := hP698
        refine X_tls ?_
        refine X_icmp_eq (tgt := 1537) C dL_law_1403 (by decide) (fun c702 => ?_) (fun c702 => ?_)
        · have h := h.1 c702
          exact t_L_law_b1537 hX hSc hd C hn hK18 s695 x3 h
        · have h := h.2 c702
          refine X_sub [] (lo2 := []) rfl ?_
          exact hE1406 s695 h
      have h := h.2
      by_cases c723 : ((xS (x3).toNatClampNeg) &&& 63) = 35
      · have h := h.1 c723
        refine X_tableIn (tgt := 1408) C dL_law_33 (by rw [c723]; decide) (by rw [c723]; decide) (off := 1375) (by rw [c723]; rfl) (by decide) ?_
        refine X_aload_n C dL_law_1408 rfl 1 rfl (isRV_r _) ?_
        refine X_aload_n C dL_law_1409 rfl 0 rfl (isRV_r _) ?_
        refine X_iload_n C dL_law_1410 rfl 3 rfl ?_
        refine X_iconst (v := 1) C dL_law_1411 rfl ?_
        refine X_iadd C dL_law_1412 ?_
        have g704 := h.1
        have h := h.2
        refine X_ialdC C hSc g704 dL_law_1413 ?_
        refine X_aload_n C dL_law_1414 rfl 0 rfl (isRV_r _) ?_
        refine X_iload_n C dL_law_1415 rfl 3 rfl ?_
        refine X_iconst (v := 2) C dL_law_1416 rfl ?_
        refine X_iadd C dL_law_1417 ?_
        have g705 := h.1
        have h := h.2
        refine X_ialdC C hSc g705 dL_law_1418 ?_
        refine X_callVXS (ci := 0) (q := (RX0, TX0, 49)) (As := [_, _]) (rest := []) C rfl (LX_S hX (k := 0) rfl) q1734 q1735 q1736 q132 q1737 ⟨rfl, nm_X0_number⟩ rfl dL_law_1419 (m_X0_number (Cx_l C) hX (d := d - 1) (by omega) st (xS ((x3 + 1)).toNatClampNeg) (xS ((x3 + 2)).toNatClampNeg) h) (by omega) (by decide) (Nat.le_of_ble_eq_true rfl) (fun s707 w708 hE709 hP710 => ?_) (fun s713 E711 q712 hE709 hP710 => ?_)
        rotate_left
        · exact False.elim hP710
        obtain ⟨r706, rfl, h⟩ := hP710
        refine X_tls ?_
        refine X_aload_n C dL_law_1422 rfl 2 rfl (isRV_r _) ?_
        refine X_aload_n C dL_law_1423 rfl 0 rfl (isRV_r _) ?_
        refine X_iload_n C dL_law_1424 rfl 3 rfl ?_
        refine X_iconst (v := 1) C dL_law_1425 rfl ?_
        refine X_iadd C dL_law_1426 ?_
        refine X_ialdC C hSc g704 dL_law_1427 ?_
        refine X_aload_n C dL_law_1428 rfl 0 rfl (isRV_r _) ?_
        refine X_iload_n C dL_law_1429 rfl 3 rfl ?_
        refine X_iconst (v := 2) C dL_law_1430 rfl ?_
        refine X_iadd C dL_law_1431 ?_
        refine X_ialdC C hSc g705 dL_law_1432 ?_
        refine X_callVS (ci := 4) (q := (RX4, TX4, 54)) (As := [_, _]) (rest := [_]) C rfl (LX_S hX (k := 175) rfl) q2402 q2403 q2404 q136 q2405 ⟨rfl, nm_X4_number⟩ rfl dL_law_1433 (m_X4_number (Cx_l C) hX (d := d - 1) (by omega) s707 (xS ((x3 + 1)).toNatClampNeg) (xS ((x3 + 2)).toNatClampNeg) h) (by omega) (by decide) (Nat.le_of_ble_eq_true rfl) (fun s715 w716 hE717 hP718 => ?_) (fun s721 E719 q720 hE717 hP718 => ?_)
        rotate_left
        · exact False.elim hP718
        obtain ⟨r714, rfl, h⟩ := hP718
        refine X_tls ?_
        refine X_lcmp_eq (tgt := 1537) C dL_law_1436 dL_law_1437 (by decide) (fun c722 => ?_) (fun c722 => ?_)
        · have h := h.1 c722
          exact t_L_law_b1537 hX hSc hd C hn hK18 s715 x3 h
        · have h := h.2 c722
          refine X_sub [] (lo2 := []) rfl ?_
          exact hE1440 s715 h
      have h := h.2
      by_cases c742 : ((xS (x3).toNatClampNeg) &&& 63) = 36
      · have h := h.1 c742
        refine X_tableIn (tgt := 1442) C dL_law_33 (by rw [c742]; decide) (by rw [c742]; decide) (off := 1409) (by rw [c742]; rfl) (by decide) ?_
        refine X_aload_n C dL_law_1442 rfl 1 rfl (isRV_r _) ?_
        refine X_aload_n C dL_law_1443 rfl 0 rfl (isRV_r _) ?_
        refine X_iload_n C dL_law_1444 rfl 3 rfl ?_
        refine X_iconst (v := 1) C dL_law_1445 rfl ?_
        refine X_iadd C dL_law_1446 ?_
        have g724 := h.1
        have h := h.2
        refine X_ialdC C hSc g724 dL_law_1447 ?_
        refine X_callVS (ci := 0) (q := (RX0, TX0, 49)) (As := [_]) (rest := []) C rfl (LX_S hX (k := 0) rfl) q1738 q1739 q1740 q132 q1741 ⟨rfl, nm_X0_seed⟩ rfl dL_law_1448 (m_X0_seed (Cx_l C) hX (d := d - 1) (by omega) st (xS ((x3 + 1)).toNatClampNeg) h) (by omega) (by decide) (Nat.le_of_ble_eq_true rfl) (fun s726 w727 hE728 hP729 => ?_) (fun s732 E730 q731 hE728 hP729 => ?_)
        rotate_left
        · exact False.elim hP729
        obtain ⟨r725, rfl, h⟩ := hP729
        refine X_tls ?_
        refine X_aload_n C dL_law_1451 rfl 2 rfl (isRV_r _) ?_
        refine X_aload_n C dL_law_1452 rfl 0 rfl (isRV_r _) ?_
        refine X_iload_n C dL_law_1453 rfl 3 rfl ?_
        refine X_iconst (v := 1) C dL_law_1454 rfl ?_
        refine X_iadd C dL_law_1455 ?_
        refine X_ialdC C hSc g724 dL_law_1456 ?_
        refine X_callVS (ci := 4) (q := (RX4, TX4, 54)) (As := [_]) (rest := [_]) C rfl (LX_S hX (k := 175) rfl) q2406 q2407 q2408 q136 q2409 ⟨rfl, nm_X4_seed⟩ rfl dL_law_1457 (m_X4_seed (Cx_l C) hX (d := d - 1) (by omega) s726 (xS ((x3 + 1)).toNatClampNeg) h) (by omega) (by decide) (Nat.le_of_ble_eq_true rfl) (fun s734 w735 hE736 hP737 => ?_) (fun s740 E738 q739 hE736 hP737 => ?_)
        rotate_left
        · exact False.elim hP737
        obtain ⟨r733, rfl, h⟩ := hP737
        refine X_tls ?_
        refine X_icmp_eq (tgt := 1537) C dL_law_1460 (by decide) (fun c741 => ?_) (fun c741 => ?_)
        · have h := h.1 c741
          exact t_L_law_b1537 hX hSc hd C hn hK18 s734 x3 h
        · have h := h.2 c741
          refine X_sub [] (lo2 := []) rfl ?_
          exact hE1463 s734 h
      have h := h.2
      by_cases c760 : ((xS (x3).toNatClampNeg) &&& 63) = 37
      · have h := h.1 c760
        refine X_tableIn (tgt := 1465) C dL_law_33 (by rw [c760]; decide) (by rw [c760]; decide) (off := 1432) (by rw [c760]; rfl) (by decide) ?_
        refine X_aload_n C dL_law_1465 rfl 1 rfl (isRV_r _) ?_
        refine X_callVS (ci := 0) (q := (RX0, TX0, 49)) (As := []) (rest := []) C rfl (LX_S hX (k := 0) rfl) q1742 q1743 q1744 q132 q1745 ⟨rfl, nm_X0_image⟩ rfl dL_law_1466 (m_X0_image (Cx_l C) hX (d := d - 1) (by omega) st h) (by omega) (by decide) (Nat.le_of_ble_eq_true rfl) (fun s744 w745 hE746 hP747 => ?_) (fun s750 E748 q749 hE746 hP747 => ?_)
        rotate_left
        · exact False.elim hP747
        obtain ⟨r743, rfl, h⟩ := hP747
        refine X_tls ?_
        refine X_aload_n C dL_law_1469 rfl 2 rfl (isRV_r _) ?_
        refine X_callVS (ci := 4) (q := (RX4, TX4, 54)) (As := []) (rest := [_]) C rfl (LX_S hX (k := 175) rfl) q2410 q2411 q2412 q136 q2413 ⟨rfl, nm_X4_image⟩ rfl dL_law_1470 (m_X4_image (Cx_l C) hX (d := d - 1) (by omega) s744 h) (by omega) (by decide) (Nat.le_of_ble_eq_true rfl) (fun s752 w753 hE754 hP755 => ?_) (fun s758 E756 q757 hE754 hP755 => ?_)
        rotate_left
        · exact False.elim hP755
        obtain ⟨r751, rfl, h⟩ := hP755
        refine X_tls ?_
        refine X_icmp_eq (tgt := 1537) C dL_law_1473 (by decide) (fun c759 => ?_) (fun c759 => ?_)
        · have h := h.1 c759
          exact t_L_law_b1537 hX hSc hd C hn hK18 s752 x3 h
        · have h := h.2 c759
          refine X_sub [] (lo2 := []) rfl ?_
          exact hE1476 s752 h
      have h := h.2
      by_cases c778 : ((xS (x3).toNatClampNeg) &&& 63) = 38
      · have h := h.1 c778
        refine X_tableIn (tgt := 1478) C dL_law_33 (by rw [c778]; decide) (by rw [c778]; decide) (off := 1445) (by rw [c778]; rfl) (by decide) ?_
        refine X_aload_n C dL_law_1478 rfl 1 rfl (isRV_r _) ?_
        refine X_callVXS (ci := 0) (q := (RX0, TX0, 49)) (As := []) (rest := []) C rfl (LX_S hX (k := 0) rfl) q1746 q1747 q1748 q132 q1749 ⟨rfl, nm_X0_restore⟩ rfl dL_law_1479 (m_X0_restore (Cx_l C) hX (d := d - 1) (by omega) st h) (by omega) (by decide) (Nat.le_of_ble_eq_true rfl) (fun s762 w763 hE764 hP765 => ?_) (fun s768 E766 q767 hE764 hP765 => ?_)
        rotate_left
        · exact False.elim hP765
        obtain ⟨r761, rfl, h⟩ := hP765
        refine X_tls ?_
        refine X_aload_n C dL_law_1482 rfl 2 rfl (isRV_r _) ?_
        refine X_callVS (ci := 4) (q := (RX4, TX4, 54)) (As := []) (rest := [_]) C rfl (LX_S hX (k := 175) rfl) q2414 q2415 q2416 q136 q2417 ⟨rfl, nm_X4_restore⟩ rfl dL_law_1483 (m_X4_restore (Cx_l C) hX (d := d - 1) (by omega) s762 h) (by omega) (by decide) (Nat.le_of_ble_eq_true rfl) (fun s770 w771 hE772 hP773 => ?_) (fun s776 E774 q775 hE772 hP773 => ?_)
        rotate_left
        · exact False.elim hP773
        obtain ⟨r769, rfl, h⟩ := hP773
        refine X_tls ?_
        refine X_icmp_eq (tgt := 1537) C dL_law_1486 (by decide) (fun c777 => ?_) (fun c777 => ?_)
        · have h := h.1 c777
          exact t_L_law_b1537 hX hSc hd C hn hK18 s770 x3 h
        · have h := h.2 c777
          refine X_sub [] (lo2 := []) rfl ?_
          exact hE1489 s770 h
      have h := h.2
      by_cases c797 : ((xS (x3).toNatClampNeg) &&& 63) = 39
      · have h := h.1 c797
        refine X_tableIn (tgt := 1491) C dL_law_33 (by rw [c797]; decide) (by rw [c797]; decide) (off := 1458) (by rw [c797]; rfl) (by decide) ?_
        refine X_aload_n C dL_law_1491 rfl 1 rfl (isRV_r _) ?_
        refine X_aload_n C dL_law_1492 rfl 0 rfl (isRV_r _) ?_
        refine X_iload_n C dL_law_1493 rfl 3 rfl ?_
        refine X_iconst (v := 1) C dL_law_1494 rfl ?_
        refine X_iadd C dL_law_1495 ?_
        have g779 := h.1
        have h := h.2
        refine X_ialdC C hSc g779 dL_law_1496 ?_
        refine X_callVXS (ci := 0) (q := (RX0, TX0, 49)) (As := [_]) (rest := []) C rfl (LX_S hX (k := 0) rfl) q1750 q1751 q1752 q132 q1753 ⟨rfl, nm_X0_count⟩ rfl dL_law_1497 (m_X0_count (Cx_l C) hX (d := d - 1) (by omega) st (xS ((x3 + 1)).toNatClampNeg) h) (by omega) (by decide) (Nat.le_of_ble_eq_true rfl) (fun s781 w782 hE783 hP784 => ?_) (fun s787 E785 q786 hE783 hP784 => ?_)
        rotate_left
        · exact False.elim hP784
        obtain ⟨r780, rfl, h⟩ := hP784
        refine X_tls ?_
        refine X_aload_n C dL_law_1500 rfl 2 rfl (isRV_r _) ?_
        refine X_aload_n C dL_law_1501 rfl 0 rfl (isRV_r _) ?_
        refine X_iload_n C dL_law_1502 rfl 3 rfl ?_
        refine X_iconst (v := 1) C dL_law_1503 rfl ?_
        refine X_iadd C dL_law_1504 ?_
        refine X_ialdC C hSc g779 dL_law_1505 ?_
        refine X_callVS (ci := 4) (q := (RX4, TX4, 54)) (As := [_]) (rest := [_]) C rfl (LX_S hX (k := 175) rfl) q2418 q2419 q2420 q136 q2421 ⟨rfl, nm_X4_count⟩ rfl dL_law_1506 (m_X4_count (Cx_l C) hX (d := d - 1) (by omega) s781 (xS ((x3 + 1)).toNatClampNeg) h) (by omega) (by decide) (Nat.le_of_ble_eq_true rfl) (fun s789 w790 hE791 hP792 => ?_) (fun s795 E793 q794 hE791 hP792 => ?_)
        rotate_left
        · exact False.elim hP792
        obtain ⟨r788, rfl, h⟩ := hP792
        refine X_tls ?_
        refine X_icmp_eq (tgt := 1537) C dL_law_1509 (by decide) (fun c796 => ?_) (fun c796 => ?_)
        · have h := h.1 c796
          exact t_L_law_b1537 hX hSc hd C hn hK18 s789 x3 h
        · have h := h.2 c796
          refine X_sub [] (lo2 := []) rfl ?_
          exact hE1512 s789 h
      have h := h.2
      by_cases c816 : ((xS (x3).toNatClampNeg) &&& 63) = 40
      · have h := h.1 c816
        refine X_tableIn (tgt := 1514) C dL_law_33 (by rw [c816]; decide) (by rw [c816]; decide) (off := 1481) (by rw [c816]; rfl) (by decide) ?_
        refine X_aload_n C dL_law_1514 rfl 1 rfl (isRV_r _) ?_
        refine X_aload_n C dL_law_1515 rfl 0 rfl (isRV_r _) ?_
        refine X_iload_n C dL_law_1516 rfl 3 rfl ?_
        refine X_iconst (v := 1) C dL_law_1517 rfl ?_
        refine X_iadd C dL_law_1518 ?_
        have g798 := h.1
        have h := h.2
        refine X_ialdC C hSc g798 dL_law_1519 ?_
        refine X_callVXS (ci := 0) (q := (RX0, TX0, 49)) (As := [_]) (rest := []) C rfl (LX_S hX (k := 0) rfl) q1755 q1756 q1757 q132 q1758 ⟨rfl, nm_X0_told⟩ rfl dL_law_1520 (m_X0_told (Cx_l C) hX (d := d - 1) (by omega) st (xS ((x3 + 1)).toNatClampNeg) h) (by omega) (by decide) (Nat.le_of_ble_eq_true rfl) (fun s800 w801 hE802 hP803 => ?_) (fun s806 E804 q805 hE802 hP803 => ?_)
        rotate_left
        · exact False.elim hP803
        obtain ⟨r799, rfl, h⟩ := hP803
        refine X_tls ?_
        refine X_aload_n C dL_law_1523 rfl 2 rfl (isRV_r _) ?_
        refine X_aload_n C dL_law_1524 rfl 0 rfl (isRV_r _) ?_
        refine X_iload_n C dL_law_1525 rfl 3 rfl ?_
        refine X_iconst (v := 1) C dL_law_1526 rfl ?_
        refine X_iadd C dL_law_1527 ?_
        refine X_ialdC C hSc g798 dL_law_1528 ?_
        refine X_callVS (ci := 4) (q := (RX4, TX4, 54)) (As := [_]) (rest := [_]) C rfl (LX_S hX (k := 175) rfl) q2422 q2423 q2424 q136 q2425 ⟨rfl, nm_X4_told⟩ rfl dL_law_1529 (m_X4_told (Cx_l C) hX (d := d - 1) (by omega) s800 (xS ((x3 + 1)).toNatClampNeg) h) (by omega) (by decide) (Nat.le_of_ble_eq_true rfl) (fun s808 w809 hE810 hP811 => ?_) (fun s814 E812 q813 hE810 hP811 => ?_)
        rotate_left
        · exact False.elim hP811
        obtain ⟨r807, rfl, h⟩ := hP811
        refine X_tls ?_
        refine X_icmp_eq (tgt := 1537) C dL_law_1532 (by decide) (fun c815 => ?_) (fun c815 => ?_)
        · have h := h.1 c815
          exact t_L_law_b1537 hX hSc hd C hn hK18 s808 x3 h
        · have h := h.2 c815
          refine X_sub [] (lo2 := []) rfl ?_
          exact hE1535 s808 h
      have h := h.2
      have c817 : ((xS (x3).toNatClampNeg) &&& 63).toInt < 0 ∨ 40 < ((xS (x3).toNatClampNeg) &&& 63).toInt := by
        have qc21 := ne_toInt c21
        have qc40 := ne_toInt c40
        have qc60 := ne_toInt c60
        have qc82 := ne_toInt c82
        have qc102 := ne_toInt c102
        have qc123 := ne_toInt c123
        have qc142 := ne_toInt c142
        have qc162 := ne_toInt c162
        have qc182 := ne_toInt c182
        have qc203 := ne_toInt c203
        have qc223 := ne_toInt c223
        have qc245 := ne_toInt c245
        have qc268 := ne_toInt c268
        have qc288 := ne_toInt c288
        have qc308 := ne_toInt c308
        have qc329 := ne_toInt c329
        have qc348 := ne_toInt c348
        have qc369 := ne_toInt c369
        have qc389 := ne_toInt c389
        have qc409 := ne_toInt c409
        have qc430 := ne_toInt c430
        have qc449 := ne_toInt c449
        have qc467 := ne_toInt c467
        have qc486 := ne_toInt c486
        have qc506 := ne_toInt c506
        have qc526 := ne_toInt c526
        have qc545 := ne_toInt c545
        have qc564 := ne_toInt c564
        have qc582 := ne_toInt c582
        have qc601 := ne_toInt c601
        have qc619 := ne_toInt c619
        have qc638 := ne_toInt c638
        have qc660 := ne_toInt c660
        have qc681 := ne_toInt c681
        have qc703 := ne_toInt c703
        have qc723 := ne_toInt c723
        have qc742 := ne_toInt c742
        have qc760 := ne_toInt c760
        have qc778 := ne_toInt c778
        have qc797 := ne_toInt c797
        have qc816 := ne_toInt c816
        simp only [Int32.reduceToInt] at qc21 qc40 qc60 qc82 qc102 qc123 qc142 qc162 qc182 qc203 qc223 qc245 qc268 qc288 qc308 qc329 qc348 qc369 qc389 qc409 qc430 qc449 qc467 qc486 qc506 qc526 qc545 qc564 qc582 qc601 qc619 qc638 qc660 qc681 qc703 qc723 qc742 qc760 qc778 qc797 qc816
        omega
      refine X_tableOut (tgt := 1537) C dL_law_33 c817 (by decide) ?_
      have h := h c817
      exact t_L_law_b1537 hX hSc hd C hn hK18 st x3 h
def w_L_law_b1015 (LS : Nat) (xS : Nat → Int32) (Φ : St → Int32 → Prop) (st : St) : Prop := Φ st 0
theorem t_L_law_b1015 {θ : Th} {κ : Kx} {Ph : Ph} (hX : LX θ) {bS LS : Nat} {xS : Nat → Int32} (hSc : SCR θ κ bS LS xS) {d : Nat} (hd : 28 ≤ d) (C : Cx θ κ yL_law cL_law 4 (some Jvm.ClassFile.FieldType.boolean) [] d) {Φ : St → Int32 → Prop} (hn : ∀ st r, Φ st r → Ph.1 st (some (.int r))) (st : St) (h : w_L_law_b1015 LS xS Φ st) : X θ κ Ph st 1015 [] [] := by
  unfold w_L_law_b1015 at h
  refine X_iconst (v := 0) C dL_law_1015 rfl ?_
  exact X_zret C rfl rfl dL_law_1016 (hn st _ h)
def w_L_law_b1028 (LS : Nat) (xS : Nat → Int32) (Φ : St → Int32 → Prop) (st : St) : Prop := Φ st 0
theorem t_L_law_b1028 {θ : Th} {κ : Kx} {Ph : Ph} (hX : LX θ) {bS LS : Nat} {xS : Nat → Int32} (hSc : SCR θ κ bS LS xS) {d : Nat} (hd : 28 ≤ d) (C : Cx θ κ yL_law cL_law 4 (some Jvm.ClassFile.FieldType.boolean) [] d) {Φ : St → Int32 → Prop} (hn : ∀ st r, Φ st r → Ph.1 st (some (.int r))) (st : St) (h : w_L_law_b1028 LS xS Φ st) : X θ κ Ph st 1028 [] [] := by
  unfold w_L_law_b1028 at h
  refine X_iconst (v := 0) C dL_law_1028 rfl ?_
  exact X_zret C rfl rfl dL_law_1029 (hn st _ h)
def w_L_law_b1051 (LS : Nat) (xS : Nat → Int32) (Φ : St → Int32 → Prop) (st : St) : Prop := Φ st 0
theorem t_L_law_b1051 {θ : Th} {κ : Kx} {Ph : Ph} (hX : LX θ) {bS LS : Nat} {xS : Nat → Int32} (hSc : SCR θ κ bS LS xS) {d : Nat} (hd : 28 ≤ d) (C : Cx θ κ yL_law cL_law 4 (some Jvm.ClassFile.FieldType.boolean) [] d) {Φ : St → Int32 → Prop} (hn : ∀ st r, Φ st r → Ph.1 st (some (.int r))) (st : St) (h : w_L_law_b1051 LS xS Φ st) : X θ κ Ph st 1051 [] [] := by
  unfold w_L_law_b1051 at h
  refine X_iconst (v := 0) C dL_law_1051 rfl ?_
  exact X_zret C rfl rfl dL_law_1052 (hn st _ h)
def w_L_law_b1085 (LS : Nat) (xS : Nat → Int32) (Φ : St → Int32 → Prop) (st : St) : Prop := Φ st 0
theorem t_L_law_b1085 {θ : Th} {κ : Kx} {Ph : Ph} (hX : LX θ) {bS LS : Nat} {xS : Nat → Int32} (hSc : SCR θ κ bS LS xS) {d : Nat} (hd : 28 ≤ d) (C : Cx θ κ yL_law cL_law 4 (some Jvm.ClassFile.FieldType.boolean) [] d) {Φ : St → Int32 → Prop} (hn : ∀ st r, Φ st r → Ph.1 st (some (.int r))) (st : St) (h : w_L_law_b1085 LS xS Φ st) : X θ κ Ph st 1085 [] [] := by
  unfold w_L_law_b1085 at h
  refine X_iconst (v := 0) C dL_law_1085 rfl ?_
  exact X_zret C rfl rfl dL_law_1086 (hn st _ h)
def w_L_law_b1118 (LS : Nat) (xS : Nat → Int32) (Φ : St → Int32 → Prop) (st : St) : Prop := Φ st 0
theorem t_L_law_b1118 {θ : Th} {κ : Kx} {Ph : Ph} (hX : LX θ) {bS LS : Nat} {xS : Nat → Int32} (hSc : SCR θ κ bS LS xS) {d : Nat} (hd : 28 ≤ d) (C : Cx θ κ yL_law cL_law 4 (some Jvm.ClassFile.FieldType.boolean) [] d) {Φ : St → Int32 → Prop} (hn : ∀ st r, Φ st r → Ph.1 st (some (.int r))) (st : St) (h : w_L_law_b1118 LS xS Φ st) : X θ κ Ph st 1118 [] [] := by
  unfold w_L_law_b1118 at h
  refine X_iconst (v := 0) C dL_law_1118 rfl ?_
  exact X_zret C rfl rfl dL_law_1119 (hn st _ h)
def w_L_law_b1141 (LS : Nat) (xS : Nat → Int32) (Φ : St → Int32 → Prop) (st : St) : Prop := Φ st 0
theorem t_L_law_b1141 {θ : Th} {κ : Kx} {Ph : Ph} (hX : LX θ) {bS LS : Nat} {xS : Nat → Int32} (hSc : SCR θ κ bS LS xS) {d : Nat} (hd : 28 ≤ d) (C : Cx θ κ yL_law cL_law 4 (some Jvm.ClassFile.FieldType.boolean) [] d) {Φ : St → Int32 → Prop} (hn : ∀ st r, Φ st r → Ph.1 st (some (.int r))) (st : St) (h : w_L_law_b1141 LS xS Φ st) : X θ κ Ph st 1141 [] [] := by
  unfold w_L_law_b1141 at h
  refine X_iconst (v := 0) C dL_law_1141 rfl ?_
  exact X_zret C rfl rfl dL_law_1142 (hn st _ h)
def w_L_law_b1164 (LS : Nat) (xS : Nat → Int32) (Φ : St → Int32 → Prop) (st : St) : Prop := Φ st 0
theorem t_L_law_b1164 {θ : Th} {κ : Kx} {Ph : Ph} (hX : LX θ) {bS LS : Nat} {xS : Nat → Int32} (hSc : SCR θ κ bS LS xS) {d : Nat} (hd : 28 ≤ d) (C : Cx θ κ yL_law cL_law 4 (some Jvm.ClassFile.FieldType.boolean) [] d) {Φ : St → Int32 → Prop} (hn : ∀ st r, Φ st r → Ph.1 st (some (.int r))) (st : St) (h : w_L_law_b1164 LS xS Φ st) : X θ κ Ph st 1164 [] [] := by
  unfold w_L_law_b1164 at h
  refine X_iconst (v := 0) C dL_law_1164 rfl ?_
  exact X_zret C rfl rfl dL_law_1165 (hn st _ h)
def w_L_law_b1177 (LS : Nat) (xS : Nat → Int32) (Φ : St → Int32 → Prop) (st : St) : Prop := Φ st 0
theorem t_L_law_b1177 {θ : Th} {κ : Kx} {Ph : Ph} (hX : LX θ) {bS LS : Nat} {xS : Nat → Int32} (hSc : SCR θ κ bS LS xS) {d : Nat} (hd : 28 ≤ d) (C : Cx θ κ yL_law cL_law 4 (some Jvm.ClassFile.FieldType.boolean) [] d) {Φ : St → Int32 → Prop} (hn : ∀ st r, Φ st r → Ph.1 st (some (.int r))) (st : St) (h : w_L_law_b1177 LS xS Φ st) : X θ κ Ph st 1177 [] [] := by
  unfold w_L_law_b1177 at h
  refine X_iconst (v := 0) C dL_law_1177 rfl ?_
  exact X_zret C rfl rfl dL_law_1178 (hn st _ h)
def w_L_law_b1200 (LS : Nat) (xS : Nat → Int32) (Φ : St → Int32 → Prop) (st : St) : Prop := Φ st 0
theorem t_L_law_b1200 {θ : Th} {κ : Kx} {Ph : Ph} (hX : LX θ) {bS LS : Nat} {xS : Nat → Int32} (hSc : SCR θ κ bS LS xS) {d : Nat} (hd : 28 ≤ d) (C : Cx θ κ yL_law cL_law 4 (some Jvm.ClassFile.FieldType.boolean) [] d) {Φ : St → Int32 → Prop} (hn : ∀ st r, Φ st r → Ph.1 st (some (.int r))) (st : St) (h : w_L_law_b1200 LS xS Φ st) : X θ κ Ph st 1200 [] [] := by
  unfold w_L_law_b1200 at h
  refine X_iconst (v := 0) C dL_law_1200 rfl ?_
  exact X_zret C rfl rfl dL_law_1201 (hn st _ h)
def w_L_law_b1213 (LS : Nat) (xS : Nat → Int32) (Φ : St → Int32 → Prop) (st : St) : Prop := Φ st 0
theorem t_L_law_b1213 {θ : Th} {κ : Kx} {Ph : Ph} (hX : LX θ) {bS LS : Nat} {xS : Nat → Int32} (hSc : SCR θ κ bS LS xS) {d : Nat} (hd : 28 ≤ d) (C : Cx θ κ yL_law cL_law 4 (some Jvm.ClassFile.FieldType.boolean) [] d) {Φ : St → Int32 → Prop} (hn : ∀ st r, Φ st r → Ph.1 st (some (.int r))) (st : St) (h : w_L_law_b1213 LS xS Φ st) : X θ κ Ph st 1213 [] [] := by
  unfold w_L_law_b1213 at h
  refine X_iconst (v := 0) C dL_law_1213 rfl ?_
  exact X_zret C rfl rfl dL_law_1214 (hn st _ h)
def w_L_law_b1236 (LS : Nat) (xS : Nat → Int32) (Φ : St → Int32 → Prop) (st : St) : Prop := Φ st 0
theorem t_L_law_b1236 {θ : Th} {κ : Kx} {Ph : Ph} (hX : LX θ) {bS LS : Nat} {xS : Nat → Int32} (hSc : SCR θ κ bS LS xS) {d : Nat} (hd : 28 ≤ d) (C : Cx θ κ yL_law cL_law 4 (some Jvm.ClassFile.FieldType.boolean) [] d) {Φ : St → Int32 → Prop} (hn : ∀ st r, Φ st r → Ph.1 st (some (.int r))) (st : St) (h : w_L_law_b1236 LS xS Φ st) : X θ κ Ph st 1236 [] [] := by
  unfold w_L_law_b1236 at h
  refine X_iconst (v := 0) C dL_law_1236 rfl ?_
  exact X_zret C rfl rfl dL_law_1237 (hn st _ h)
def w_L_law_b1290 (LS : Nat) (xS : Nat → Int32) (Φ : St → Int32 → Prop) (st : St) : Prop := Φ st 0
theorem t_L_law_b1290 {θ : Th} {κ : Kx} {Ph : Ph} (hX : LX θ) {bS LS : Nat} {xS : Nat → Int32} (hSc : SCR θ κ bS LS xS) {d : Nat} (hd : 28 ≤ d) (C : Cx θ κ yL_law cL_law 4 (some Jvm.ClassFile.FieldType.boolean) [] d) {Φ : St → Int32 → Prop} (hn : ∀ st r, Φ st r → Ph.1 st (some (.int r))) (st : St) (h : w_L_law_b1290 LS xS Φ st) : X θ κ Ph st 1290 [] [] := by
  unfold w_L_law_b1290 at h
  refine X_iconst (v := 0) C dL_law_1290 rfl ?_
  exact X_zret C rfl rfl dL_law_1291 (hn st _ h)
def w_L_law_b1333 (LS : Nat) (xS : Nat → Int32) (Φ : St → Int32 → Prop) (st : St) : Prop := Φ st 0
theorem t_L_law_b1333 {θ : Th} {κ : Kx} {Ph : Ph} (hX : LX θ) {bS LS : Nat} {xS : Nat → Int32} (hSc : SCR θ κ bS LS xS) {d : Nat} (hd : 28 ≤ d) (C : Cx θ κ yL_law cL_law 4 (some Jvm.ClassFile.FieldType.boolean) [] d) {Φ : St → Int32 → Prop} (hn : ∀ st r, Φ st r → Ph.1 st (some (.int r))) (st : St) (h : w_L_law_b1333 LS xS Φ st) : X θ κ Ph st 1333 [] [] := by
  unfold w_L_law_b1333 at h
  refine X_iconst (v := 0) C dL_law_1333 rfl ?_
  exact X_zret C rfl rfl dL_law_1334 (hn st _ h)
def w_L_law_b1406 (LS : Nat) (xS : Nat → Int32) (Φ : St → Int32 → Prop) (st : St) : Prop := Φ st 0
theorem t_L_law_b1406 {θ : Th} {κ : Kx} {Ph : Ph} (hX : LX θ) {bS LS : Nat} {xS : Nat → Int32} (hSc : SCR θ κ bS LS xS) {d : Nat} (hd : 28 ≤ d) (C : Cx θ κ yL_law cL_law 4 (some Jvm.ClassFile.FieldType.boolean) [] d) {Φ : St → Int32 → Prop} (hn : ∀ st r, Φ st r → Ph.1 st (some (.int r))) (st : St) (h : w_L_law_b1406 LS xS Φ st) : X θ κ Ph st 1406 [] [] := by
  unfold w_L_law_b1406 at h
  refine X_iconst (v := 0) C dL_law_1406 rfl ?_
  exact X_zret C rfl rfl dL_law_1407 (hn st _ h)
def w_L_law_b1440 (LS : Nat) (xS : Nat → Int32) (Φ : St → Int32 → Prop) (st : St) : Prop := Φ st 0
theorem t_L_law_b1440 {θ : Th} {κ : Kx} {Ph : Ph} (hX : LX θ) {bS LS : Nat} {xS : Nat → Int32} (hSc : SCR θ κ bS LS xS) {d : Nat} (hd : 28 ≤ d) (C : Cx θ κ yL_law cL_law 4 (some Jvm.ClassFile.FieldType.boolean) [] d) {Φ : St → Int32 → Prop} (hn : ∀ st r, Φ st r → Ph.1 st (some (.int r))) (st : St) (h : w_L_law_b1440 LS xS Φ st) : X θ κ Ph st 1440 [] [] := by
  unfold w_L_law_b1440 at h
  refine X_iconst (v := 0) C dL_law_1440 rfl ?_
  exact X_zret C rfl rfl dL_law_1441 (hn st _ h)
def w_L_law_b1463 (LS : Nat) (xS : Nat → Int32) (Φ : St → Int32 → Prop) (st : St) : Prop := Φ st 0
theorem t_L_law_b1463 {θ : Th} {κ : Kx} {Ph : Ph} (hX : LX θ) {bS LS : Nat} {xS : Nat → Int32} (hSc : SCR θ κ bS LS xS) {d : Nat} (hd : 28 ≤ d) (C : Cx θ κ yL_law cL_law 4 (some Jvm.ClassFile.FieldType.boolean) [] d) {Φ : St → Int32 → Prop} (hn : ∀ st r, Φ st r → Ph.1 st (some (.int r))) (st : St) (h : w_L_law_b1463 LS xS Φ st) : X θ κ Ph st 1463 [] [] := by
  unfold w_L_law_b1463 at h
  refine X_iconst (v := 0) C dL_law_1463 rfl ?_
  exact X_zret C rfl rfl dL_law_1464 (hn st _ h)
def w_L_law_b1476 (LS : Nat) (xS : Nat → Int32) (Φ : St → Int32 → Prop) (st : St) : Prop := Φ st 0
theorem t_L_law_b1476 {θ : Th} {κ : Kx} {Ph : Ph} (hX : LX θ) {bS LS : Nat} {xS : Nat → Int32} (hSc : SCR θ κ bS LS xS) {d : Nat} (hd : 28 ≤ d) (C : Cx θ κ yL_law cL_law 4 (some Jvm.ClassFile.FieldType.boolean) [] d) {Φ : St → Int32 → Prop} (hn : ∀ st r, Φ st r → Ph.1 st (some (.int r))) (st : St) (h : w_L_law_b1476 LS xS Φ st) : X θ κ Ph st 1476 [] [] := by
  unfold w_L_law_b1476 at h
  refine X_iconst (v := 0) C dL_law_1476 rfl ?_
  exact X_zret C rfl rfl dL_law_1477 (hn st _ h)
def w_L_law_b1489 (LS : Nat) (xS : Nat → Int32) (Φ : St → Int32 → Prop) (st : St) : Prop := Φ st 0
theorem t_L_law_b1489 {θ : Th} {κ : Kx} {Ph : Ph} (hX : LX θ) {bS LS : Nat} {xS : Nat → Int32} (hSc : SCR θ κ bS LS xS) {d : Nat} (hd : 28 ≤ d) (C : Cx θ κ yL_law cL_law 4 (some Jvm.ClassFile.FieldType.boolean) [] d) {Φ : St → Int32 → Prop} (hn : ∀ st r, Φ st r → Ph.1 st (some (.int r))) (st : St) (h : w_L_law_b1489 LS xS Φ st) : X θ κ Ph st 1489 [] [] := by
  unfold w_L_law_b1489 at h
  refine X_iconst (v := 0) C dL_law_1489 rfl ?_
  exact X_zret C rfl rfl dL_law_1490 (hn st _ h)
def w_L_law_b1512 (LS : Nat) (xS : Nat → Int32) (Φ : St → Int32 → Prop) (st : St) : Prop := Φ st 0
theorem t_L_law_b1512 {θ : Th} {κ : Kx} {Ph : Ph} (hX : LX θ) {bS LS : Nat} {xS : Nat → Int32} (hSc : SCR θ κ bS LS xS) {d : Nat} (hd : 28 ≤ d) (C : Cx θ κ yL_law cL_law 4 (some Jvm.ClassFile.FieldType.boolean) [] d) {Φ : St → Int32 → Prop} (hn : ∀ st r, Φ st r → Ph.1 st (some (.int r))) (st : St) (h : w_L_law_b1512 LS xS Φ st) : X θ κ Ph st 1512 [] [] := by
  unfold w_L_law_b1512 at h
  refine X_iconst (v := 0) C dL_law_1512 rfl ?_
  exact X_zret C rfl rfl dL_law_1513 (hn st _ h)
def w_L_law_b1535 (LS : Nat) (xS : Nat → Int32) (Φ : St → Int32 → Prop) (st : St) : Prop := Φ st 0
theorem t_L_law_b1535 {θ : Th} {κ : Kx} {Ph : Ph} (hX : LX θ) {bS LS : Nat} {xS : Nat → Int32} (hSc : SCR θ κ bS LS xS) {d : Nat} (hd : 28 ≤ d) (C : Cx θ κ yL_law cL_law 4 (some Jvm.ClassFile.FieldType.boolean) [] d) {Φ : St → Int32 → Prop} (hn : ∀ st r, Φ st r → Ph.1 st (some (.int r))) (st : St) (h : w_L_law_b1535 LS xS Φ st) : X θ κ Ph st 1535 [] [] := by
  unfold w_L_law_b1535 at h
  refine X_iconst (v := 0) C dL_law_1535 rfl ?_
  exact X_zret C rfl rfl dL_law_1536 (hn st _ h)
def w_L_law_b1543 (LS : Nat) (xS : Nat → Int32) (Φ : St → Int32 → Prop) (st : St) : Prop := Φ st 1
theorem t_L_law_b1543 {θ : Th} {κ : Kx} {Ph : Ph} (hX : LX θ) {bS LS : Nat} {xS : Nat → Int32} (hSc : SCR θ κ bS LS xS) {d : Nat} (hd : 28 ≤ d) (C : Cx θ κ yL_law cL_law 4 (some Jvm.ClassFile.FieldType.boolean) [] d) {Φ : St → Int32 → Prop} (hn : ∀ st r, Φ st r → Ph.1 st (some (.int r))) (st : St) (h : w_L_law_b1543 LS xS Φ st) : X θ κ Ph st 1543 [] [] := by
  unfold w_L_law_b1543 at h
  refine X_iconst (v := 1) C dL_law_1543 rfl ?_
  exact X_zret C rfl rfl dL_law_1544 (hn st _ h)
def w_L_law_b233 (LS : Nat) (xS : Nat → Int32) (Φ : St → Int32 → Prop) (st : St) : Prop := Φ st 0
theorem t_L_law_b233 {θ : Th} {κ : Kx} {Ph : Ph} (hX : LX θ) {bS LS : Nat} {xS : Nat → Int32} (hSc : SCR θ κ bS LS xS) {d : Nat} (hd : 28 ≤ d) (C : Cx θ κ yL_law cL_law 4 (some Jvm.ClassFile.FieldType.boolean) [] d) {Φ : St → Int32 → Prop} (hn : ∀ st r, Φ st r → Ph.1 st (some (.int r))) (st : St) (h : w_L_law_b233 LS xS Φ st) : X θ κ Ph st 233 [] [] := by
  unfold w_L_law_b233 at h
  refine X_iconst (v := 0) C dL_law_233 rfl ?_
  exact X_zret C rfl rfl dL_law_234 (hn st _ h)
def w_L_law_b256 (LS : Nat) (xS : Nat → Int32) (Φ : St → Int32 → Prop) (st : St) : Prop := Φ st 0
theorem t_L_law_b256 {θ : Th} {κ : Kx} {Ph : Ph} (hX : LX θ) {bS LS : Nat} {xS : Nat → Int32} (hSc : SCR θ κ bS LS xS) {d : Nat} (hd : 28 ≤ d) (C : Cx θ κ yL_law cL_law 4 (some Jvm.ClassFile.FieldType.boolean) [] d) {Φ : St → Int32 → Prop} (hn : ∀ st r, Φ st r → Ph.1 st (some (.int r))) (st : St) (h : w_L_law_b256 LS xS Φ st) : X θ κ Ph st 256 [] [] := by
  unfold w_L_law_b256 at h
  refine X_iconst (v := 0) C dL_law_256 rfl ?_
  exact X_zret C rfl rfl dL_law_257 (hn st _ h)
def w_L_law_b289 (LS : Nat) (xS : Nat → Int32) (Φ : St → Int32 → Prop) (st : St) : Prop := Φ st 0
theorem t_L_law_b289 {θ : Th} {κ : Kx} {Ph : Ph} (hX : LX θ) {bS LS : Nat} {xS : Nat → Int32} (hSc : SCR θ κ bS LS xS) {d : Nat} (hd : 28 ≤ d) (C : Cx θ κ yL_law cL_law 4 (some Jvm.ClassFile.FieldType.boolean) [] d) {Φ : St → Int32 → Prop} (hn : ∀ st r, Φ st r → Ph.1 st (some (.int r))) (st : St) (h : w_L_law_b289 LS xS Φ st) : X θ κ Ph st 289 [] [] := by
  unfold w_L_law_b289 at h
  refine X_iconst (v := 0) C dL_law_289 rfl ?_
  exact X_zret C rfl rfl dL_law_290 (hn st _ h)
def w_L_law_b342 (LS : Nat) (xS : Nat → Int32) (Φ : St → Int32 → Prop) (st : St) : Prop := Φ st 0
theorem t_L_law_b342 {θ : Th} {κ : Kx} {Ph : Ph} (hX : LX θ) {bS LS : Nat} {xS : Nat → Int32} (hSc : SCR θ κ bS LS xS) {d : Nat} (hd : 28 ≤ d) (C : Cx θ κ yL_law cL_law 4 (some Jvm.ClassFile.FieldType.boolean) [] d) {Φ : St → Int32 → Prop} (hn : ∀ st r, Φ st r → Ph.1 st (some (.int r))) (st : St) (h : w_L_law_b342 LS xS Φ st) : X θ κ Ph st 342 [] [] := by
  unfold w_L_law_b342 at h
  refine X_iconst (v := 0) C dL_law_342 rfl ?_
  exact X_zret C rfl rfl dL_law_343 (hn st _ h)
def w_L_law_b375 (LS : Nat) (xS : Nat → Int32) (Φ : St → Int32 → Prop) (st : St) : Prop := Φ st 0
theorem t_L_law_b375 {θ : Th} {κ : Kx} {Ph : Ph} (hX : LX θ) {bS LS : Nat} {xS : Nat → Int32} (hSc : SCR θ κ bS LS xS) {d : Nat} (hd : 28 ≤ d) (C : Cx θ κ yL_law cL_law 4 (some Jvm.ClassFile.FieldType.boolean) [] d) {Φ : St → Int32 → Prop} (hn : ∀ st r, Φ st r → Ph.1 st (some (.int r))) (st : St) (h : w_L_law_b375 LS xS Φ st) : X θ κ Ph st 375 [] [] := by
  unfold w_L_law_b375 at h
  refine X_iconst (v := 0) C dL_law_375 rfl ?_
  exact X_zret C rfl rfl dL_law_376 (hn st _ h)
def w_L_law_b418 (LS : Nat) (xS : Nat → Int32) (Φ : St → Int32 → Prop) (st : St) : Prop := Φ st 0
theorem t_L_law_b418 {θ : Th} {κ : Kx} {Ph : Ph} (hX : LX θ) {bS LS : Nat} {xS : Nat → Int32} (hSc : SCR θ κ bS LS xS) {d : Nat} (hd : 28 ≤ d) (C : Cx θ κ yL_law cL_law 4 (some Jvm.ClassFile.FieldType.boolean) [] d) {Φ : St → Int32 → Prop} (hn : ∀ st r, Φ st r → Ph.1 st (some (.int r))) (st : St) (h : w_L_law_b418 LS xS Φ st) : X θ κ Ph st 418 [] [] := by
  unfold w_L_law_b418 at h
  refine X_iconst (v := 0) C dL_law_418 rfl ?_
  exact X_zret C rfl rfl dL_law_419 (hn st _ h)
def w_L_law_b441 (LS : Nat) (xS : Nat → Int32) (Φ : St → Int32 → Prop) (st : St) : Prop := Φ st 0
theorem t_L_law_b441 {θ : Th} {κ : Kx} {Ph : Ph} (hX : LX θ) {bS LS : Nat} {xS : Nat → Int32} (hSc : SCR θ κ bS LS xS) {d : Nat} (hd : 28 ≤ d) (C : Cx θ κ yL_law cL_law 4 (some Jvm.ClassFile.FieldType.boolean) [] d) {Φ : St → Int32 → Prop} (hn : ∀ st r, Φ st r → Ph.1 st (some (.int r))) (st : St) (h : w_L_law_b441 LS xS Φ st) : X θ κ Ph st 441 [] [] := by
  unfold w_L_law_b441 at h
  refine X_iconst (v := 0) C dL_law_441 rfl ?_
  exact X_zret C rfl rfl dL_law_442 (hn st _ h)
def w_L_law_b474 (LS : Nat) (xS : Nat → Int32) (Φ : St → Int32 → Prop) (st : St) : Prop := Φ st 0
theorem t_L_law_b474 {θ : Th} {κ : Kx} {Ph : Ph} (hX : LX θ) {bS LS : Nat} {xS : Nat → Int32} (hSc : SCR θ κ bS LS xS) {d : Nat} (hd : 28 ≤ d) (C : Cx θ κ yL_law cL_law 4 (some Jvm.ClassFile.FieldType.boolean) [] d) {Φ : St → Int32 → Prop} (hn : ∀ st r, Φ st r → Ph.1 st (some (.int r))) (st : St) (h : w_L_law_b474 LS xS Φ st) : X θ κ Ph st 474 [] [] := by
  unfold w_L_law_b474 at h
  refine X_iconst (v := 0) C dL_law_474 rfl ?_
  exact X_zret C rfl rfl dL_law_475 (hn st _ h)
def w_L_law_b507 (LS : Nat) (xS : Nat → Int32) (Φ : St → Int32 → Prop) (st : St) : Prop := Φ st 0
theorem t_L_law_b507 {θ : Th} {κ : Kx} {Ph : Ph} (hX : LX θ) {bS LS : Nat} {xS : Nat → Int32} (hSc : SCR θ κ bS LS xS) {d : Nat} (hd : 28 ≤ d) (C : Cx θ κ yL_law cL_law 4 (some Jvm.ClassFile.FieldType.boolean) [] d) {Φ : St → Int32 → Prop} (hn : ∀ st r, Φ st r → Ph.1 st (some (.int r))) (st : St) (h : w_L_law_b507 LS xS Φ st) : X θ κ Ph st 507 [] [] := by
  unfold w_L_law_b507 at h
  refine X_iconst (v := 0) C dL_law_507 rfl ?_
  exact X_zret C rfl rfl dL_law_508 (hn st _ h)
def w_L_law_b550 (LS : Nat) (xS : Nat → Int32) (Φ : St → Int32 → Prop) (st : St) : Prop := Φ st 0
theorem t_L_law_b550 {θ : Th} {κ : Kx} {Ph : Ph} (hX : LX θ) {bS LS : Nat} {xS : Nat → Int32} (hSc : SCR θ κ bS LS xS) {d : Nat} (hd : 28 ≤ d) (C : Cx θ κ yL_law cL_law 4 (some Jvm.ClassFile.FieldType.boolean) [] d) {Φ : St → Int32 → Prop} (hn : ∀ st r, Φ st r → Ph.1 st (some (.int r))) (st : St) (h : w_L_law_b550 LS xS Φ st) : X θ κ Ph st 550 [] [] := by
  unfold w_L_law_b550 at h
  refine X_iconst (v := 0) C dL_law_550 rfl ?_
  exact X_zret C rfl rfl dL_law_551 (hn st _ h)
def w_L_law_b584 (LS : Nat) (xS : Nat → Int32) (Φ : St → Int32 → Prop) (st : St) : Prop := Φ st 0
theorem t_L_law_b584 {θ : Th} {κ : Kx} {Ph : Ph} (hX : LX θ) {bS LS : Nat} {xS : Nat → Int32} (hSc : SCR θ κ bS LS xS) {d : Nat} (hd : 28 ≤ d) (C : Cx θ κ yL_law cL_law 4 (some Jvm.ClassFile.FieldType.boolean) [] d) {Φ : St → Int32 → Prop} (hn : ∀ st r, Φ st r → Ph.1 st (some (.int r))) (st : St) (h : w_L_law_b584 LS xS Φ st) : X θ κ Ph st 584 [] [] := by
  unfold w_L_law_b584 at h
  refine X_iconst (v := 0) C dL_law_584 rfl ?_
  exact X_zret C rfl rfl dL_law_585 (hn st _ h)
def w_L_law_b638 (LS : Nat) (xS : Nat → Int32) (Φ : St → Int32 → Prop) (st : St) : Prop := Φ st 0
theorem t_L_law_b638 {θ : Th} {κ : Kx} {Ph : Ph} (hX : LX θ) {bS LS : Nat} {xS : Nat → Int32} (hSc : SCR θ κ bS LS xS) {d : Nat} (hd : 28 ≤ d) (C : Cx θ κ yL_law cL_law 4 (some Jvm.ClassFile.FieldType.boolean) [] d) {Φ : St → Int32 → Prop} (hn : ∀ st r, Φ st r → Ph.1 st (some (.int r))) (st : St) (h : w_L_law_b638 LS xS Φ st) : X θ κ Ph st 638 [] [] := by
  unfold w_L_law_b638 at h
  refine X_iconst (v := 0) C dL_law_638 rfl ?_
  exact X_zret C rfl rfl dL_law_639 (hn st _ h)
def w_L_law_b702 (LS : Nat) (xS : Nat → Int32) (Φ : St → Int32 → Prop) (st : St) : Prop := Φ st 0
theorem t_L_law_b702 {θ : Th} {κ : Kx} {Ph : Ph} (hX : LX θ) {bS LS : Nat} {xS : Nat → Int32} (hSc : SCR θ κ bS LS xS) {d : Nat} (hd : 28 ≤ d) (C : Cx θ κ yL_law cL_law 4 (some Jvm.ClassFile.FieldType.boolean) [] d) {Φ : St → Int32 → Prop} (hn : ∀ st r, Φ st r → Ph.1 st (some (.int r))) (st : St) (h : w_L_law_b702 LS xS Φ st) : X θ κ Ph st 702 [] [] := by
  unfold w_L_law_b702 at h
  refine X_iconst (v := 0) C dL_law_702 rfl ?_
  exact X_zret C rfl rfl dL_law_703 (hn st _ h)
def w_L_law_b736 (LS : Nat) (xS : Nat → Int32) (Φ : St → Int32 → Prop) (st : St) : Prop := Φ st 0
theorem t_L_law_b736 {θ : Th} {κ : Kx} {Ph : Ph} (hX : LX θ) {bS LS : Nat} {xS : Nat → Int32} (hSc : SCR θ κ bS LS xS) {d : Nat} (hd : 28 ≤ d) (C : Cx θ κ yL_law cL_law 4 (some Jvm.ClassFile.FieldType.boolean) [] d) {Φ : St → Int32 → Prop} (hn : ∀ st r, Φ st r → Ph.1 st (some (.int r))) (st : St) (h : w_L_law_b736 LS xS Φ st) : X θ κ Ph st 736 [] [] := by
  unfold w_L_law_b736 at h
  refine X_iconst (v := 0) C dL_law_736 rfl ?_
  exact X_zret C rfl rfl dL_law_737 (hn st _ h)
def w_L_law_b769 (LS : Nat) (xS : Nat → Int32) (Φ : St → Int32 → Prop) (st : St) : Prop := Φ st 0
theorem t_L_law_b769 {θ : Th} {κ : Kx} {Ph : Ph} (hX : LX θ) {bS LS : Nat} {xS : Nat → Int32} (hSc : SCR θ κ bS LS xS) {d : Nat} (hd : 28 ≤ d) (C : Cx θ κ yL_law cL_law 4 (some Jvm.ClassFile.FieldType.boolean) [] d) {Φ : St → Int32 → Prop} (hn : ∀ st r, Φ st r → Ph.1 st (some (.int r))) (st : St) (h : w_L_law_b769 LS xS Φ st) : X θ κ Ph st 769 [] [] := by
  unfold w_L_law_b769 at h
  refine X_iconst (v := 0) C dL_law_769 rfl ?_
  exact X_zret C rfl rfl dL_law_770 (hn st _ h)
def w_L_law_b813 (LS : Nat) (xS : Nat → Int32) (Φ : St → Int32 → Prop) (st : St) : Prop := Φ st 0
theorem t_L_law_b813 {θ : Th} {κ : Kx} {Ph : Ph} (hX : LX θ) {bS LS : Nat} {xS : Nat → Int32} (hSc : SCR θ κ bS LS xS) {d : Nat} (hd : 28 ≤ d) (C : Cx θ κ yL_law cL_law 4 (some Jvm.ClassFile.FieldType.boolean) [] d) {Φ : St → Int32 → Prop} (hn : ∀ st r, Φ st r → Ph.1 st (some (.int r))) (st : St) (h : w_L_law_b813 LS xS Φ st) : X θ κ Ph st 813 [] [] := by
  unfold w_L_law_b813 at h
  refine X_iconst (v := 0) C dL_law_813 rfl ?_
  exact X_zret C rfl rfl dL_law_814 (hn st _ h)
def w_L_law_b836 (LS : Nat) (xS : Nat → Int32) (Φ : St → Int32 → Prop) (st : St) : Prop := Φ st 0
theorem t_L_law_b836 {θ : Th} {κ : Kx} {Ph : Ph} (hX : LX θ) {bS LS : Nat} {xS : Nat → Int32} (hSc : SCR θ κ bS LS xS) {d : Nat} (hd : 28 ≤ d) (C : Cx θ κ yL_law cL_law 4 (some Jvm.ClassFile.FieldType.boolean) [] d) {Φ : St → Int32 → Prop} (hn : ∀ st r, Φ st r → Ph.1 st (some (.int r))) (st : St) (h : w_L_law_b836 LS xS Φ st) : X θ κ Ph st 836 [] [] := by
  unfold w_L_law_b836 at h
  refine X_iconst (v := 0) C dL_law_836 rfl ?_
  exact X_zret C rfl rfl dL_law_837 (hn st _ h)
def w_L_law_b880 (LS : Nat) (xS : Nat → Int32) (Φ : St → Int32 → Prop) (st : St) : Prop := Φ st 0
theorem t_L_law_b880 {θ : Th} {κ : Kx} {Ph : Ph} (hX : LX θ) {bS LS : Nat} {xS : Nat → Int32} (hSc : SCR θ κ bS LS xS) {d : Nat} (hd : 28 ≤ d) (C : Cx θ κ yL_law cL_law 4 (some Jvm.ClassFile.FieldType.boolean) [] d) {Φ : St → Int32 → Prop} (hn : ∀ st r, Φ st r → Ph.1 st (some (.int r))) (st : St) (h : w_L_law_b880 LS xS Φ st) : X θ κ Ph st 880 [] [] := by
  unfold w_L_law_b880 at h
  refine X_iconst (v := 0) C dL_law_880 rfl ?_
  exact X_zret C rfl rfl dL_law_881 (hn st _ h)
def w_L_law_b914 (LS : Nat) (xS : Nat → Int32) (Φ : St → Int32 → Prop) (st : St) : Prop := Φ st 0
theorem t_L_law_b914 {θ : Th} {κ : Kx} {Ph : Ph} (hX : LX θ) {bS LS : Nat} {xS : Nat → Int32} (hSc : SCR θ κ bS LS xS) {d : Nat} (hd : 28 ≤ d) (C : Cx θ κ yL_law cL_law 4 (some Jvm.ClassFile.FieldType.boolean) [] d) {Φ : St → Int32 → Prop} (hn : ∀ st r, Φ st r → Ph.1 st (some (.int r))) (st : St) (h : w_L_law_b914 LS xS Φ st) : X θ κ Ph st 914 [] [] := by
  unfold w_L_law_b914 at h
  refine X_iconst (v := 0) C dL_law_914 rfl ?_
  exact X_zret C rfl rfl dL_law_915 (hn st _ h)
def w_L_law_b948 (LS : Nat) (xS : Nat → Int32) (Φ : St → Int32 → Prop) (st : St) : Prop := Φ st 0
theorem t_L_law_b948 {θ : Th} {κ : Kx} {Ph : Ph} (hX : LX θ) {bS LS : Nat} {xS : Nat → Int32} (hSc : SCR θ κ bS LS xS) {d : Nat} (hd : 28 ≤ d) (C : Cx θ κ yL_law cL_law 4 (some Jvm.ClassFile.FieldType.boolean) [] d) {Φ : St → Int32 → Prop} (hn : ∀ st r, Φ st r → Ph.1 st (some (.int r))) (st : St) (h : w_L_law_b948 LS xS Φ st) : X θ κ Ph st 948 [] [] := by
  unfold w_L_law_b948 at h
  refine X_iconst (v := 0) C dL_law_948 rfl ?_
  exact X_zret C rfl rfl dL_law_949 (hn st _ h)
def w_L_law_b992 (LS : Nat) (xS : Nat → Int32) (Φ : St → Int32 → Prop) (st : St) : Prop := Φ st 0
theorem t_L_law_b992 {θ : Th} {κ : Kx} {Ph : Ph} (hX : LX θ) {bS LS : Nat} {xS : Nat → Int32} (hSc : SCR θ κ bS LS xS) {d : Nat} (hd : 28 ≤ d) (C : Cx θ κ yL_law cL_law 4 (some Jvm.ClassFile.FieldType.boolean) [] d) {Φ : St → Int32 → Prop} (hn : ∀ st r, Φ st r → Ph.1 st (some (.int r))) (st : St) (h : w_L_law_b992 LS xS Φ st) : X θ κ Ph st 992 [] [] := by
  unfold w_L_law_b992 at h
  refine X_iconst (v := 0) C dL_law_992 rfl ?_
  exact X_zret C rfl rfl dL_law_993 (hn st _ h)
def w_L_law (LS : Nat) (xS : Nat → Int32) (st : St) (x3 : Int32) (Φ : St → Int32 → Prop) : Prop := w_L_law_l18 LS xS Φ (fun (s818 : St) => w_L_law_b1015 LS xS Φ s818) (fun (s819 : St) => w_L_law_b1028 LS xS Φ s819) (fun (s820 : St) => w_L_law_b1051 LS xS Φ s820) (fun (s821 : St) => w_L_law_b1085 LS xS Φ s821) (fun (s822 : St) => w_L_law_b1118 LS xS Φ s822) (fun (s823 : St) => w_L_law_b1141 LS xS Φ s823) (fun (s824 : St) => w_L_law_b1164 LS xS Φ s824) (fun (s825 : St) => w_L_law_b1177 LS xS Φ s825) (fun (s826 : St) => w_L_law_b1200 LS xS Φ s826) (fun (s827 : St) => w_L_law_b1213 LS xS Φ s827) (fun (s828 : St) => w_L_law_b1236 LS xS Φ s828) (fun (s829 : St) => w_L_law_b1290 LS xS Φ s829) (fun (s830 : St) => w_L_law_b1333 LS xS Φ s830) (fun (s831 : St) => w_L_law_b1406 LS xS Φ s831) (fun (s832 : St) => w_L_law_b1440 LS xS Φ s832) (fun (s833 : St) => w_L_law_b1463 LS xS Φ s833) (fun (s834 : St) => w_L_law_b1476 LS xS Φ s834) (fun (s835 : St) => w_L_law_b1489 LS xS Φ s835) (fun (s836 : St) => w_L_law_b1512 LS xS Φ s836) (fun (s837 : St) => w_L_law_b1535 LS xS Φ s837) (fun (s838 : St) => w_L_law_b1543 LS xS Φ s838) (fun (s839 : St) => w_L_law_b233 LS xS Φ s839) (fun (s840 : St) => w_L_law_b256 LS xS Φ s840) (fun (s841 : St) => w_L_law_b289 LS xS Φ s841) (fun (s842 : St) => w_L_law_b342 LS xS Φ s842) (fun (s843 : St) => w_L_law_b375 LS xS Φ s843) (fun (s844 : St) => w_L_law_b418 LS xS Φ s844) (fun (s845 : St) => w_L_law_b441 LS xS Φ s845) (fun (s846 : St) => w_L_law_b474 LS xS Φ s846) (fun (s847 : St) => w_L_law_b507 LS xS Φ s847) (fun (s848 : St) => w_L_law_b550 LS xS Φ s848) (fun (s849 : St) => w_L_law_b584 LS xS Φ s849) (fun (s850 : St) => w_L_law_b638 LS xS Φ s850) (fun (s851 : St) => w_L_law_b702 LS xS Φ s851) (fun (s852 : St) => w_L_law_b736 LS xS Φ s852) (fun (s853 : St) => w_L_law_b769 LS xS Φ s853) (fun (s854 : St) => w_L_law_b813 LS xS Φ s854) (fun (s855 : St) => w_L_law_b836 LS xS Φ s855) (fun (s856 : St) => w_L_law_b880 LS xS Φ s856) (fun (s857 : St) => w_L_law_b914 LS xS Φ s857) (fun (s858 : St) => w_L_law_b948 LS xS Φ s858) (fun (s859 : St) => w_L_law_b992 LS xS Φ s859) gFU st x3
theorem t_L_law {θ : Th} {κ : Kx} {Ph : Ph} (hX : LX θ) {bS LS : Nat} {xS : Nat → Int32} (hSc : SCR θ κ bS LS xS) {d : Nat} (hd : 28 ≤ d) (C : Cx θ κ yL_law cL_law 4 (some Jvm.ClassFile.FieldType.boolean) [] d) {Φ : St → Int32 → Prop} (hn : ∀ st r, Φ st r → Ph.1 st (some (.int r))) (st : St) (x3 : Int32) (h : w_L_law LS xS st x3 Φ) : X θ κ Ph st 18 [(0, .ref bS), (1, .ref (ad θ 0)), (2, .ref (ad θ 175)), (3, .int x3)] [] := by
  unfold w_L_law at h
  refine t_L_law_l18 hX hSc hd C hn ?_ ?_ ?_ ?_ ?_ ?_ ?_ ?_ ?_ ?_ ?_ ?_ ?_ ?_ ?_ ?_ ?_ ?_ ?_ ?_ ?_ ?_ ?_ ?_ ?_ ?_ ?_ ?_ ?_ ?_ ?_ ?_ ?_ ?_ ?_ ?_ ?_ ?_ ?_ ?_ ?_ ?_ gFU st x3 h
  · intro s818 h
    exact t_L_law_b1015 hX hSc hd C hn s818 h
  · intro s819 h
    exact t_L_law_b1028 hX hSc hd C hn s819 h
  · intro s820 h
    exact t_L_law_b1051 hX hSc hd C hn s820 h
  · intro s821 h
    exact t_L_law_b1085 hX hSc hd C hn s821 h
  · intro s822 h
    exact t_L_law_b1118 hX hSc hd C hn s822 h
  · intro s823 h
    exact t_L_law_b1141 hX hSc hd C hn s823 h
  · intro s824 h
    exact t_L_law_b1164 hX hSc hd C hn s824 h
  · intro s825 h
    exact t_L_law_b1177 hX hSc hd C hn s825 h
  · intro s826 h
    exact t_L_law_b1200 hX hSc hd C hn s826 h
  · intro s827 h
    exact t_L_law_b1213 hX hSc hd C hn s827 h
  · intro s828 h
    exact t_L_law_b1236 hX hSc hd C hn s828 h
  · intro s829 h
    exact t_L_law_b1290 hX hSc hd C hn s829 h
  · intro s830 h
    exact t_L_law_b1333 hX hSc hd C hn s830 h
  · intro s831 h
    exact t_L_law_b1406 hX hSc hd C hn s831 h
  · intro s832 h
    exact t_L_law_b1440 hX hSc hd C hn s832 h
  · intro s833 h
    exact t_L_law_b1463 hX hSc hd C hn s833 h
  · intro s834 h
    exact t_L_law_b1476 hX hSc hd C hn s834 h
  · intro s835 h
    exact t_L_law_b1489 hX hSc hd C hn s835 h
  · intro s836 h
    exact t_L_law_b1512 hX hSc hd C hn s836 h
  · intro s837 h
    exact t_L_law_b1535 hX hSc hd C hn s837 h
  · intro s838 h
    exact t_L_law_b1543 hX hSc hd C hn s838 h
  · intro s839 h
    exact t_L_law_b233 hX hSc hd C hn s839 h
  · intro s840 h
    exact t_L_law_b256 hX hSc hd C hn s840 h
  · intro s841 h
    exact t_L_law_b289 hX hSc hd C hn s841 h
  · intro s842 h
    exact t_L_law_b342 hX hSc hd C hn s842 h
  · intro s843 h
    exact t_L_law_b375 hX hSc hd C hn s843 h
  · intro s844 h
    exact t_L_law_b418 hX hSc hd C hn s844 h
  · intro s845 h
    exact t_L_law_b441 hX hSc hd C hn s845 h
  · intro s846 h
    exact t_L_law_b474 hX hSc hd C hn s846 h
  · intro s847 h
    exact t_L_law_b507 hX hSc hd C hn s847 h
  · intro s848 h
    exact t_L_law_b550 hX hSc hd C hn s848 h
  · intro s849 h
    exact t_L_law_b584 hX hSc hd C hn s849 h
  · intro s850 h
    exact t_L_law_b638 hX hSc hd C hn s850 h
  · intro s851 h
    exact t_L_law_b702 hX hSc hd C hn s851 h
  · intro s852 h
    exact t_L_law_b736 hX hSc hd C hn s852 h
  · intro s853 h
    exact t_L_law_b769 hX hSc hd C hn s853 h
  · intro s854 h
    exact t_L_law_b813 hX hSc hd C hn s854 h
  · intro s855 h
    exact t_L_law_b836 hX hSc hd C hn s855 h
  · intro s856 h
    exact t_L_law_b880 hX hSc hd C hn s856 h
  · intro s857 h
    exact t_L_law_b914 hX hSc hd C hn s857 h
  · intro s858 h
    exact t_L_law_b948 hX hSc hd C hn s858 h
  · intro s859 h
    exact t_L_law_b992 hX hSc hd C hn s859 h

