/-! THE START, 4: what the Statement gives of the start: classes, constants, statics -/
set_option maxRecDepth 100000
def gRp : List (String × Nat) := [("SecretsWorth", 124), ("java/lang/Math", 116), ("SecretsWorth", 515), ("SecretsWorth", 516), ("SecretsWorth", 517), ("SecretsWorth", 519), ("SecretsWorth", 521), ("SecretsWorth", 522), ("SecretsWorth", 534), ("SecretsWorth", 494), ("SecretsWorth", 573), ("SecretsWorth", 581), ("SecretsWorth", 583), ("SecretsWorth$Node", 48), ("SecretsWorth$Node", 53), ("java/lang/String", 1005), ("java/lang/Throwable", 81), ("SecretsWorth$Node", 70), ("SecretsWorth$Says", 25), ("SecretsWorth", 591), ("SecretsWorth", 593)]
def tmI (i : Nat) : Term := .string (gRp.getD i ("", 0)).1 (gRp.getD i ("", 0)).2
def vlI (i : Nat) : Term := .field (tmI i) "java/lang/String" "value" "[B"
def lnI (i : Nat) : Nat := (kTx.getD i []).length
def byI (i j : Nat) : Int32 := Int32.ofNat ((kTx.getD i []).getD j 0)
def zrI (i : Nat) : Int32 := if i = 0 then 1 else 0
def nFl : List Cond := flatC (Jvm.Cond.and given_1 narrow_1)
def cdI (i : Nat) : List Cond := [.exactly (tmI i) "java/lang/String", .eq (.field (tmI i) "java/lang/String" "coder" "B") (.int 0), .arrayOf (vlI i) .byte, .eq (.length (vlI i)) (.int (Int32.ofNat (lnI i))), .eq (.field (tmI i) "java/lang/String" "hash" "I") (.int (kHs.getD i 0)), .eq (.field (tmI i) "java/lang/String" "hashIsZero" "Z") (.int (zrI i)), .exactly (vlI i) "[B"] ++ (List.range (lnI i)).map fun j => .eq (.elem (vlI i) (.int (Int32.ofNat j))) (.int (byI i j))
def dgT (n : String) : Term := .static "java/lang/Integer" n "[B"
def cdD (n : String) (f : Nat → Int32) : List Cond := [.arrayOf (dgT n) .byte, .eq (.length (dgT n)) (.int 100), .exactly (dgT n) "[B"] ++ (List.range 100).map fun j => .eq (.elem (dgT n) (.int (Int32.ofNat j))) (.int (f j))
/-- places of words -/
def inFl (L : List Cond) (ps : List Nat) : Prop := L = ps.filterMap (fun i => nFl[i]?)
theorem inFl_of {L : List Cond} {ps : List Nat} (h : inFl L ps) : ∀ w ∈ L, w ∈ nFl := by
  intro w hw
  rw [h] at hw
  obtain ⟨i, -, hi⟩ := List.mem_filterMap.mp hw
  exact List.mem_of_getElem? hi
theorem cdm_0 : inFl (cdI 0) [431, 432, 433, 434, 435, 436, 755] := by unfold inFl; decide +kernel
theorem cdm_1 : inFl (cdI 1) [437, 438, 439, 440, 454, 455, 756, 441, 442, 443, 444, 445, 446, 447, 448, 449, 450, 451, 452, 453] := by unfold inFl; decide +kernel
theorem cdm_2 : inFl (cdI 2) [456, 457, 458, 459, 466, 467, 757, 460, 461, 462, 463, 464, 465] := by unfold inFl; decide +kernel
theorem cdm_3 : inFl (cdI 3) [468, 469, 470, 471, 477, 478, 758, 472, 473, 474, 475, 476] := by unfold inFl; decide +kernel
theorem cdm_4 : inFl (cdI 4) [479, 480, 481, 482, 487, 488, 759, 483, 484, 485, 486] := by unfold inFl; decide +kernel
theorem cdm_5 : inFl (cdI 5) [489, 490, 491, 492, 497, 498, 760, 493, 494, 495, 496] := by unfold inFl; decide +kernel
theorem cdm_6 : inFl (cdI 6) [499, 500, 501, 502, 508, 509, 761, 503, 504, 505, 506, 507] := by unfold inFl; decide +kernel
theorem cdm_7 : inFl (cdI 7) [510, 511, 512, 513, 520, 521, 762, 514, 515, 516, 517, 518, 519] := by unfold inFl; decide +kernel
theorem cdm_8 : inFl (cdI 8) [522, 523, 524, 525, 530, 531, 763, 526, 527, 528, 529] := by unfold inFl; decide +kernel
theorem cdm_9 : inFl (cdI 9) [532, 533, 534, 535, 540, 541, 764, 536, 537, 538, 539] := by unfold inFl; decide +kernel
theorem cdm_10 : inFl (cdI 10) [542, 543, 544, 545, 547, 548, 765, 546] := by unfold inFl; decide +kernel
theorem cdm_11 : inFl (cdI 11) [549, 550, 551, 552, 554, 555, 766, 553] := by unfold inFl; decide +kernel
theorem cdm_12 : inFl (cdI 12) [556, 557, 558, 559, 562, 563, 767, 560, 561] := by unfold inFl; decide +kernel
theorem cdm_13 : inFl (cdI 13) [564, 565, 566, 567, 574, 575, 768, 568, 569, 570, 571, 572, 573] := by unfold inFl; decide +kernel
theorem cdm_14 : inFl (cdI 14) [576, 577, 578, 579, 581, 582, 769, 580] := by unfold inFl; decide +kernel
theorem cdm_15 : inFl (cdI 15) [591, 592, 593, 594, 599, 600, 771, 595, 596, 597, 598] := by unfold inFl; decide +kernel
theorem cdm_16 : inFl (cdI 16) [601, 602, 603, 604, 607, 608, 772, 605, 606] := by unfold inFl; decide +kernel
theorem cdm_17 : inFl (cdI 17) [609, 610, 611, 612, 614, 615, 773, 613] := by unfold inFl; decide +kernel
theorem cdm_18 : inFl (cdI 18) [623, 624, 625, 626, 628, 629, 775, 627] := by unfold inFl; decide +kernel
theorem cdm_19 : inFl (cdI 19) [630, 631, 632, 633, 635, 636, 776, 634] := by unfold inFl; decide +kernel
theorem cdm_20 : inFl (cdI 20) [637, 638, 639, 640, 642, 643, 777, 641] := by unfold inFl; decide +kernel
theorem cdI_mem : ∀ {i : Nat}, i < 21 → ∀ w ∈ cdI i, w ∈ nFl
  | 0, _ => inFl_of cdm_0
  | 1, _ => inFl_of cdm_1
  | 2, _ => inFl_of cdm_2
  | 3, _ => inFl_of cdm_3
  | 4, _ => inFl_of cdm_4
  | 5, _ => inFl_of cdm_5
  | 6, _ => inFl_of cdm_6
  | 7, _ => inFl_of cdm_7
  | 8, _ => inFl_of cdm_8
  | 9, _ => inFl_of cdm_9
  | 10, _ => inFl_of cdm_10
  | 11, _ => inFl_of cdm_11
  | 12, _ => inFl_of cdm_12
  | 13, _ => inFl_of cdm_13
  | 14, _ => inFl_of cdm_14
  | 15, _ => inFl_of cdm_15
  | 16, _ => inFl_of cdm_16
  | 17, _ => inFl_of cdm_17
  | 18, _ => inFl_of cdm_18
  | 19, _ => inFl_of cdm_19
  | 20, _ => inFl_of cdm_20
  | n + 21, h => absurd h (by omega)
theorem cdT_m : inFl (cdD "DigitTens" fun j => Int32.ofNat (48 + j / 10)) [116, 117, 754, 118, 119, 120, 121, 122, 123, 124, 125, 126, 127, 128, 129, 130, 131, 132, 133, 134, 135, 136, 137, 138, 139, 140, 141, 142, 143, 144, 145, 146, 147, 148, 149, 150, 151, 152, 153, 154, 155, 156, 157, 158, 159, 160, 161, 162, 163, 164, 165, 166, 167, 168, 169, 170, 171, 172, 173, 174, 175, 176, 177, 178, 179, 180, 181, 182, 183, 184, 185, 186, 187, 188, 189, 190, 191, 192, 193, 194, 195, 196, 197, 198, 199, 200, 201, 202, 203, 204, 205, 206, 207, 208, 209, 210, 211, 212, 213, 214, 215, 216, 217] := by unfold inFl; decide +kernel
theorem cdO_m : inFl (cdD "DigitOnes" fun j => Int32.ofNat (48 + j % 10)) [13, 14, 753, 15, 16, 17, 18, 19, 20, 21, 22, 23, 24, 25, 26, 27, 28, 29, 30, 31, 32, 33, 34, 35, 36, 37, 38, 39, 40, 41, 42, 43, 44, 45, 46, 47, 48, 49, 50, 51, 52, 53, 54, 55, 56, 57, 58, 59, 60, 61, 62, 63, 64, 65, 66, 67, 68, 69, 70, 71, 72, 73, 74, 75, 76, 77, 78, 79, 80, 81, 82, 83, 84, 85, 86, 87, 88, 89, 90, 91, 92, 93, 94, 95, 96, 97, 98, 99, 100, 101, 102, 103, 104, 105, 106, 107, 108, 109, 110, 111, 112, 113, 114] := by unfold inFl; decide +kernel
theorem gSR_t : inTbl (gSR.map fun q => Cond.stringRef q.1 q.2.1 q.2.2.1) [247, 731, 1226, 1235, 1236, 1237, 1238, 1239, 1240, 1282, 1355, 1427, 1428, 1453, 1455, 1456, 1469, 1523, 1541, 1550, 1579, 1584, 1590, 2245, 2252, 2257, 2258, 2267, 2268, 2269, 2274, 2342] := by unfold inTbl; decide +kernel
def gEq : List (Nat × String × Nat) := [(11, "SecretsWorth$Node", 55), (0, "SecretsWorth$Says", 20), (2, "SecretsWorthModel", 378), (3, "SecretsWorthModel", 384), (4, "SecretsWorthModel", 389), (5, "SecretsWorthModel", 391), (6, "SecretsWorthModel", 396), (7, "SecretsWorthModel", 398), (8, "SecretsWorthModel", 400), (9, "SecretsWorthModel", 405), (13, "SecretsWorthModel", 456)]
theorem gEq_m : inFl (gEq.map fun q => Cond.eq (tmI q.1) (.string q.2.1 q.2.2)) [590, 622, 656, 668, 679, 690, 702, 715, 726, 737, 750] := by unfold inFl; decide +kernel
theorem gSR_ok : (gSR.all fun q => decide (q.2.2.2 < 21) && (decide (gRp[q.2.2.2]? = some (q.1, q.2.1)) || decide ((q.2.2.2, q.1, q.2.1) ∈ gEq))) = true := by decide +kernel
theorem gIF_t : inTbl (gIF.flatMap fun q => [Cond.declares q.2.1, .interfaceMethod q.2.1.cls q.2.1.cls q.2.1.name q.2.1.desc, .publicMethod q.2.2, .unhidden q.1 q.2.1.name q.2.1.desc, .castable q.1 q.2.1.cls]) [1444, 1443, 1448, 1446, 1433, 1444, 1443, 1545, 1543, 1459, 1432, 1431, 1436, 1434, 1433, 1432, 1431, 1436, 1460, 1459, 1594, 1593, 1598, 1597, 1595, 1594, 1593, 1602, 1601, 1599, 1610, 1609, 1614, 1612, 1595, 1610, 1609, 1626, 1624, 1599] := by unfold inTbl; decide +kernel
theorem gAO_t : inTbl (gAO.map fun C => Cond.arrayOver (.object C)) [233, 249, 1264] := by unfold inTbl; decide +kernel
theorem gNC_m : inFl (gNC.map fun q => Cond.not (.castable q.1 q.2)) [265, 238, 324] := by unfold inFl; decide +kernel
theorem gDF_m : inFl (gDF.map fun q => Cond.landsInDefault q.1 q.2 q.2) [751, 752] := by unfold inFl; decide +kernel
theorem gAA_t : inTbl (gAA.map fun t => Cond.arrayOver t) [178, 177, 231] := by unfold inTbl; decide +kernel
def gPr : List FieldType := [.int, .long, .byte, .boolean, .char, .short]
theorem gPr_t : inTbl (gPr.map fun t => Cond.arrayClass t) [229, 246, 259, 1929, 2443, 1725] := by unfold inTbl; decide +kernel
theorem gcl_t : inTbl (gcl.map fun q => Cond.instantiable q.1 q.2.2) [163, 171, 234, 250, 1761, 424, 1148, 1258, 1647, 602, 963] := by unfold inTbl; decide +kernel
theorem gPS_t : inTbl (gPS.map Cond.privateMethod) [1001, 1005, 1392, 1388] := by unfold inTbl; decide +kernel
theorem gPS_u : inTbl (gPS.map Cond.instanceMethod) [1002, 1006, 1393, 1389] := by unfold inTbl; decide +kernel
theorem gPS_c : ∀ z ∈ gPS, z.cls = "java/lang/AbstractStringBuilder" := by decide
def gSt : List Cond := [.laysStatic Bundle.tN "UNASSIGNED_STACK" Bundle.steD, .initialized Bundle.tN, .laysStatic Bundle.tN "SUPPRESSED_SENTINEL" Bundle.listD, .laysStatic "java/lang/String" "COMPACT_STRINGS" "Z", .initialized "java/lang/String", .laysStatic "java/lang/Integer" "DigitTens" "[B", .laysStatic "java/lang/Integer" "DigitOnes" "[B", .initialized "java/lang/Integer", .laysStatic "jdk/internal/util/Preconditions" "SIOOBE_FORMATTER" "Ljava/util/function/BiFunction;", .initialized "jdk/internal/util/Preconditions"]
theorem gSt_t : inTbl gSt [450, 137, 452, 972, 144, 1418, 1416, 146, 1061, 156] := by unfold inTbl; decide +kernel
def gSn : List Cond := [.isRef (.static Bundle.tN "UNASSIGNED_STACK" Bundle.steD), .isRef (.static Bundle.tN "SUPPRESSED_SENTINEL" Bundle.listD), .eq (.static "java/lang/String" "COMPACT_STRINGS" "Z") (.int 1), .isRef (.static "jdk/internal/util/Preconditions" "SIOOBE_FORMATTER" "Ljava/util/function/BiFunction;")]
theorem gSn_m : inFl gSn [4, 5, 6, 7] := by unfold inFl; decide +kernel
/-- a String constant and its bytes -/
def StrO (s : State) (a v n : Nat) (by_ : Nat → Int32) (hs hz : Int32) : Prop := (∃ cell : Cell, s.heap[a]? = some cell ∧ cell.vm.isStatics = false ∧ cell.vm ≠ .unknown ∧ s.vm.findClass "java/lang/String" = some cell.cls ∧ ∀ f d x, (f, d, x) ∈ [("coder", "B", Value.int 0), ("value", "[B", Value.ref v), ("hash", "I", Value.int hs), ("hashIsZero", "Z", Value.int hz)] → ∃ cf k fi fd, s.fieldFound? "java/lang/String" f d = some (cf, k, fi, fd) ∧ cell.slots[fd.slot]? = some x)
def BytO (s : State) (v n : Nat) (by_ : Nat → Int32) : Prop := ∃ cell : Cell, s.heap[v]? = some cell ∧ s.vm.findClass "[B" = some cell.cls ∧ cell.vm.isStatics = false ∧ cell.vm ≠ .unknown ∧ cell.slots.size.toInt32 = Int32.ofNat n ∧ ∀ j, j < n → cell.slots[j]? = some (.int (by_ j))
theorem byt_of {args : Array Value} {s : State} {tm : Term} {n : Nat} {f : Nat → Int32} (hn : n < 2 ^ 31) (h1 : (Cond.arrayOf tm .byte).before args s = true) (h2 : (Cond.eq (.length tm) (.int (Int32.ofNat n))).before args s = true) (h3 : ∀ j, j < n → (Cond.eq (.elem tm (.int (Int32.ofNat j))) (.int (f j))).before args s = true) (h4 : (Cond.exactly tm "[B").before args s = true) : ∃ v, tm.eval args s none [] s = some (.ref v) ∧ BytO s v n f := by
  obtain ⟨t, ht, cell, e1, e2, e3, e4, e5, e6, e7⟩ := va_Tof (f := fun j => .int (f j)) (A := fun q => s.heap.size ≤ q) hn h1 (va_eqt h2) (fun j hj => va_eqt (h3 j hj)) (fun a ha => Nat.not_le.mpr ha)
  obtain ⟨a, c, cA, kA, q1, q2, q3, q4, q5, q6, -⟩ := Cond.exactly_spec (args := args) (first := s) (o := none) (s := s) (idx := []) (t := tm) (cls := "[B") h4
  have ea : a = t := by
    have h9 := q1.symm.trans ht
    injection h9 with h9
    injection h9
  subst ea
  have ec : cA = cell := Option.some.inj (q3.symm.trans e1)
  subst ec
  exact ⟨a, q1, cA, e1, by rw [q6]; exact q2, q5, e3, e5, e6⟩
theorem str_of {args : Array Value} {s : State} (h : ∀ w ∈ nFl, w.before args s = true) {i : Nat} (hi : i < 21) : ∃ a v, (tmI i).eval args s none [] s = some (.ref a) ∧ StrO s a v (lnI i) (byI i) (kHs.getD i 0) (zrI i) ∧ BytO s v (lnI i) (byI i) := by
  have hc : ∀ w ∈ cdI i, w.before args s = true := fun w hw => h w (cdI_mem hi w hw)
  have hl : ∀ w, w ∈ [Cond.exactly (tmI i) "java/lang/String", .eq (.field (tmI i) "java/lang/String" "coder" "B") (.int 0), .arrayOf (vlI i) .byte, .eq (.length (vlI i)) (.int (Int32.ofNat (lnI i))), .eq (.field (tmI i) "java/lang/String" "hash" "I") (.int (kHs.getD i 0)), .eq (.field (tmI i) "java/lang/String" "hashIsZero" "Z") (.int (zrI i)), .exactly (vlI i) "[B"] → w.before args s = true := fun w hw => hc w (List.mem_append_left _ hw)
  have hel : ∀ j, j < lnI i → (Cond.eq (.elem (vlI i) (.int (Int32.ofNat j))) (.int (byI i j))).before args s = true := fun j hj => hc _ (List.mem_append_right _ (List.mem_map.mpr ⟨j, List.mem_range.mpr hj, rfl⟩))
  have hn : lnI i < 2 ^ 31 := by
    have h9 : ((List.range 21).all fun i => decide (lnI i < 2 ^ 31)) = true := by decide +kernel
    exact of_decide_eq_true (List.all_eq_true.mp h9 i (List.mem_range.mpr hi))
  have k1 := hl (.exactly (tmI i) "java/lang/String") (by simp)
  have k2 := hl (.eq (.field (tmI i) "java/lang/String" "coder" "B") (.int 0)) (by simp)
  have k3 := hl (.arrayOf (vlI i) .byte) (by simp)
  have k4 := hl (.eq (.length (vlI i)) (.int (Int32.ofNat (lnI i)))) (by simp)
  have k5 := hl (.eq (.field (tmI i) "java/lang/String" "hash" "I") (.int (kHs.getD i 0))) (by simp)
  have k6 := hl (.eq (.field (tmI i) "java/lang/String" "hashIsZero" "Z") (.int (zrI i))) (by simp)
  have k7 := hl (.exactly (vlI i) "[B") (by simp)
  obtain ⟨v, v1, v2⟩ := byt_of hn k3 k4 hel k7
  obtain ⟨a, c, cA, kA, q1, q2, q3, q4, q5, q6, -⟩ := Cond.exactly_spec (args := args) (first := s) (o := none) (s := s) (idx := []) (t := tmI i) (cls := "java/lang/String") k1
  have hf : ∀ (f d : String) (x : Value), (Term.field (tmI i) "java/lang/String" f d).eval args s none [] s = some x → cA.vm ≠ .unknown ∧ ∃ cf k fi fd, s.fieldFound? "java/lang/String" f d = some (cf, k, fi, fd) ∧ cA.slots[fd.slot]? = some x := fun f d x hx => by
    obtain ⟨cf, k, fi, fd, c9, g1, g2, g3, g4, g5, -⟩ := vk_OFof (A := fun q => s.heap.size ≤ q) q1 hx (fun a ha => Nat.not_le.mpr ha)
    have ec : c9 = cA := Option.some.inj (g3.symm.trans q3)
    subst ec
    exact ⟨g4, cf, k, fi, fd, g1, g5⟩
  have f1 := hf "coder" "B" (.int 0) (va_eqt k2)
  have f2 := hf "value" "[B" (.ref v) v1
  have f3 := hf "hash" "I" (.int (kHs.getD i 0)) (va_eqt k5)
  have f4 := hf "hashIsZero" "Z" (.int (zrI i)) (va_eqt k6)
  refine ⟨a, v, q1, ⟨cA, q3, q5, f1.1, by rw [q6]; exact q2, fun f d x hx => ?_⟩, v2⟩
  simp only [List.mem_cons, Prod.mk.injEq, List.not_mem_nil, or_false] at hx
  rcases hx with ⟨rfl, rfl, rfl⟩ | ⟨rfl, rfl, rfl⟩ | ⟨rfl, rfl, rfl⟩ | ⟨rfl, rfl, rfl⟩
  · exact f1.2
  · exact f2.2
  · exact f3.2
  · exact f4.2
theorem arr_of {s : State} {args : Array Value} (hT : ∀ w ∈ lw_tbl, w.before args s = true) : ∀ t, t ∈ gcodes → ∃ cA, ArrOfT s cA (acomp t) ∧ va_RA s cA (acomp t) := by
  have hp : ∀ ty, ty ∈ gPr → ∃ cA, ArrOfT s cA ty ∧ s.vm.findClass ("[" ++ ty.toString) = some cA := fun ty hty => by
    obtain ⟨c, k, comp, h1, h2, h3⟩ := Cond.arrayClass_spec (hT (.arrayClass ty) (inTbl_of gPr_t _ (List.mem_map.mpr ⟨ty, hty, rfl⟩)))
    exact ⟨c, fun n z => ⟨fun k e => (by cases e), k, h2, comp, h3⟩, h1⟩
  have ha : ∀ ty, FieldType.array ty ∈ gAA → ∃ cA, ArrOfT s cA (.array ty) ∧ s.vm.findClass ("[" ++ (FieldType.array ty).toString) = some cA := fun ty hty => by
    obtain ⟨comp, c, k, h1, h2, h3, h4⟩ := Cond.arrayOver_specA (hT (.arrayOver (.array ty)) (inTbl_of gAA_t _ (List.mem_map.mpr ⟨_, hty, rfl⟩)))
    exact ⟨c, fun n z => ⟨fun k e => (by cases e), k, h2, comp, h3⟩, h4⟩
  have ho : ∀ C, C ∈ gAO → ∃ cA, ArrOfT s cA (.object C) ∧ va_RA s cA (.object C) := fun C hC => by
    obtain ⟨comp, c, k, h1, h2, h3, h4, h5⟩ := Cond.arrayOver_spec (hT (.arrayOver (.object C)) (inTbl_of gAO_t _ (List.mem_map.mpr ⟨C, hC, rfl⟩)))
    exact ⟨c, fun n z => ⟨fun k e => (by cases e), k, h3, comp, h4⟩, k, comp, h3, h4, h1, h5⟩
  intro t ht
  simp only [gcodes, List.mem_cons, List.not_mem_nil, or_false] at ht
  rcases ht with rfl | rfl | rfl | rfl | rfl | rfl | rfl | rfl | rfl | rfl | rfl | rfl
  · exact hp .int (by decide)
  · exact hp .long (by decide)
  · exact hp .byte (by decide)
  · exact hp .boolean (by decide)
  · exact hp .char (by decide)
  · exact hp .short (by decide)
  · exact ha .int (by decide)
  · exact ha (.array .int) (by decide)
  · exact ha .long (by decide)
  · exact ho "SecretsWorth$Ratio" (by decide)
  · exact ho "SecretsWorth$Sheet" (by decide)
  · exact ho "SecretsWorth$Node" (by decide)
/-- any reference is one of an index -/
theorem rf_of (b t : Nat) : ∃ (u : Nat) (f : Nat → Nat), (u < b ∨ b + gBIG ≤ u) ∨ (b ≤ t ∧ t < b + gBIG) := ⟨b + gBIG, fun _ => 0, Or.inl (Or.inr (Nat.le_refl _))⟩
def stZ (b t j : Nat) : Option Nat := if b ≤ t ∧ t < b + gBIG then some (t - b) else some (gBIG + j)
theorem stZ_rv {θ : Th} {t j : Nat} (h : ¬ (thb θ ≤ t ∧ t < thb θ + gBIG) → thc θ j = t) : rv θ (stZ (thb θ) t j) = .ref t := by
  unfold stZ
  split
  · rename_i h1
    show Value.ref (ad θ (t - thb θ)) = _
    rw [ad_lo (by omega)]
    have : thb θ + (t - thb θ) = t := by omega
    rw [this]
  · rename_i h1
    show Value.ref (ad θ (gBIG + j)) = _
    unfold ad
    rw [if_neg (by omega), Nat.add_sub_cancel_left, h h1]
theorem so_sh (k : Nat) : sh (stOf []) k = bsS k := by simp [stOf, sh]
theorem so_ln (k : Nat) : ln (stOf []) k = bsL k := by simp [stOf, ln]
theorem so_sI (k j : Nat) : sI (stOf []) k j = bsI k j := by simp [stOf, sI]
theorem so_sR (k j : Nat) : sR (stOf []) k j = bsR k j := by simp [stOf, sR]
theorem start_at {s : State} {args : Array Value} (hts : ∀ w ∈ lw_tbl, w.before args s = true) (hnw : ∀ w ∈ nFl, w.before args s = true) (hpos : 0 < s.heap.size) : ∃ θ : Th, L0 θ ∧ thb θ = s.heap.size ∧ KW θ s s.heap ∧ Wd θ (stOf []) s.heap := by
  have hcls : ∀ ci : Nat, ∃ D : ClassId × (Nat → Nat), ∀ q, gcl[ci]? = some q → u_Kn s q.1 q.2.1 q.2.2 D.1 D.2 := fun ci => by
    cases h : gcl[ci]? with
    | none => exact ⟨(0, fun _ => 0), fun q hq => by cases hq⟩
    | some q =>
      obtain ⟨c, iS, hk⟩ := u_known (ws := lw_all) (fun w hw => hts w (lw_all_tbl hw)) (gin h) (hts (.instantiable q.1 q.2.2) (inTbl_of gcl_t _ (List.mem_map.mpr ⟨q, List.mem_of_getElem? h, rfl⟩)))
      exact ⟨(c, iS), fun q' e => by cases e; exact hk⟩
  obtain ⟨DD, hDD⟩ := Classical.axiomOfChoice hcls
  have harr : ∀ t : Nat, ∃ cA : ClassId, t ∈ gcodes → ArrOfT s cA (acomp t) ∧ va_RA s cA (acomp t) := fun t => by
    by_cases h : t ∈ gcodes
    · obtain ⟨cA, h1⟩ := arr_of hts t h
      exact ⟨cA, fun _ => h1⟩
    · exact ⟨0, fun h2 => absurd h2 h⟩
  obtain ⟨cA, hcA⟩ := Classical.axiomOfChoice harr
  have hstr : ∀ i : Nat, ∃ p : Nat × Nat, i < 21 → (tmI i).eval args s none [] s = some (.ref p.1) ∧ StrO s p.1 p.2 (lnI i) (byI i) (kHs.getD i 0) (zrI i) ∧ BytO s p.2 (lnI i) (byI i) := fun i => by
    by_cases h : i < 21
    · obtain ⟨a, v, h1⟩ := str_of hnw h
      exact ⟨(a, v), fun _ => h1⟩
    · exact ⟨(0, 0), fun h2 => absurd h2 h⟩
  obtain ⟨pp, hpp⟩ := Classical.axiomOfChoice hstr
  have hdig : ∀ (n : String) (f : Nat → Int32), (∀ w ∈ cdD n f, w.before args s = true) → ∃ v, (dgT n).eval args s none [] s = some (.ref v) ∧ BytO s v 100 f := fun n f hw => by
    have hl : ∀ w, w ∈ [Cond.arrayOf (dgT n) .byte, .eq (.length (dgT n)) (.int 100), .exactly (dgT n) "[B"] → w.before args s = true := fun w h => hw w (List.mem_append_left _ h)
    exact byt_of (by decide) (hl (.arrayOf (dgT n) .byte) (by simp)) (hl (.eq (.length (dgT n)) (.int 100)) (by simp)) (fun j hj => hw _ (List.mem_append_right _ (List.mem_map.mpr ⟨j, List.mem_range.mpr hj, rfl⟩))) (hl (.exactly (dgT n) "[B") (by simp))
  obtain ⟨dT, hT1, hT2⟩ := hdig _ _ (fun w hw => hnw w (inFl_of cdT_m w hw))
  obtain ⟨dO, hO1, hO2⟩ := hdig _ _ (fun w hw => hnw w (inFl_of cdO_m w hw))
  have hna : ∀ a : Nat, a < s.heap.size → ¬ (fun q => s.heap.size ≤ q) a := fun a ha => Nat.not_le.mpr ha
  have hSt : ∀ w, w ∈ gSt → w.before args s = true := fun w hw => hts w (inTbl_of gSt_t w hw)
  have hSn : ∀ w, w ∈ gSn → w.before args s = true := fun w hw => hnw w (inFl_of gSn_m w hw)
  have m : ∀ {i : Nat} {w : Cond}, gSt[i]? = some w → w.before args s = true := fun h => hSt _ (List.mem_of_getElem? h)
  have mn : ∀ {i : Nat} {w : Cond}, gSn[i]? = some w → w.before args s = true := fun h => hSn _ (List.mem_of_getElem? h)
  have z1 : vx_Zq Bundle.tN "UNASSIGNED_STACK" Bundle.steD (fun q => s.heap.size ≤ q) s s.heap := vx_Zqof (m (i := 0) rfl) (m (i := 1) rfl) (mn (i := 0) rfl) hna
  have z2 : vx_Zq Bundle.tN "SUPPRESSED_SENTINEL" Bundle.listD (fun q => s.heap.size ≤ q) s s.heap := vx_Zqof (m (i := 2) rfl) (m (i := 1) rfl) (mn (i := 1) rfl) hna
  have z3 : va_Zq "jdk/internal/util/Preconditions" "SIOOBE_FORMATTER" "Ljava/util/function/BiFunction;" (fun q => s.heap.size ≤ q) s s.heap := va_Zqof (m (i := 8) rfl) (m (i := 9) rfl) (mn (i := 3) rfl) hna
  have hz : ∀ {C n d : String}, va_Zq C n d (fun q => s.heap.size ≤ q) s s.heap → ∃ t : Nat, va_Z C n d .null (fun q => s.heap.size ≤ q) s s.heap ∨ va_Z C n d (.ref t) (fun q => s.heap.size ≤ q) s s.heap := fun h => by
    rcases h with h | ⟨t, h⟩
    · exact ⟨0, Or.inl h⟩
    · exact ⟨t, Or.inr h⟩
  obtain ⟨t1, y1⟩ := hz z1.1
  obtain ⟨t2, y2⟩ := hz z2.1
  obtain ⟨t3, y3⟩ := hz z3
  let far : Nat → Nat := fun t => if s.heap.size ≤ t ∧ t < s.heap.size + gBIG then 0 else t
  let cst : Nat → Nat := fun i => if i < 42 then (if i % 2 = 0 then (pp (i / 2)).1 else (pp (i / 2)).2) else if i = 200 then dT else if i = 201 then dO else if i = 310 then far t1 else if i = 311 then far t2 else if i = 312 then far t3 else 0
  let θ : Th := (((fun c => (DD c).1), fun c => (DD c).2), s.heap.size, cst, cA, fun _ => 0, fun _ => 0, fun _ _ => none)
  have hb : thb θ = s.heap.size := rfl
  have hcst : ∀ i, thc θ i = cst i := fun _ => rfl
  have hadr : ∀ i, ad θ (gBIG + i) = cst i := fun i => by
    unfold ad
    rw [if_neg (by omega), Nat.add_sub_cancel_left]
    rfl
  have hfar : ∀ {C n d : String} {t j : Nat}, cst j = far t → (va_Z C n d .null (fun q => s.heap.size ≤ q) s s.heap ∨ va_Z C n d (.ref t) (fun q => s.heap.size ≤ q) s s.heap) → ∃ r, va_Z C n d (rv θ r) (Af θ) s s.heap := fun {C n d t j} hj h => by
    rcases h with h | h
    · exact ⟨none, h⟩
    · refine ⟨stZ (thb θ) t j, ?_⟩
      rw [stZ_rv (fun hn => by rw [hcst, hj]; exact if_neg hn)]
      exact h
  have hlt : ∀ {v n : Nat} {f : Nat → Int32}, BytO s v n f → v < s.heap.size := fun h => by
    obtain ⟨c, h1, -⟩ := h
    exact (Array.getElem?_eq_some_iff.mp h1).1
  have hlts : ∀ {a v n : Nat} {f : Nat → Int32} {x y : Int32}, StrO s a v n f x y → a < s.heap.size := fun h => by
    obtain ⟨c, h1, -⟩ := h
    exact (Array.getElem?_eq_some_iff.mp h1).1
  have hfl : ∀ t, far t < s.heap.size ∨ s.heap.size + gBIG ≤ far t := fun t => by
    show (if s.heap.size ≤ t ∧ t < s.heap.size + gBIG then 0 else t) < _ ∨ _ ≤ (if s.heap.size ≤ t ∧ t < s.heap.size + gBIG then 0 else t)
    split
    · exact Or.inl hpos
    · omega
  have hthc : ∀ i, thc θ i < thb θ ∨ thb θ + gBIG ≤ thc θ i := fun i => by
    rw [hcst, hb]
    show (if i < 42 then (if i % 2 = 0 then (pp (i / 2)).1 else (pp (i / 2)).2) else if i = 200 then dT else if i = 201 then dO else if i = 310 then far t1 else if i = 311 then far t2 else if i = 312 then far t3 else 0) < _ ∨ _ ≤ (if i < 42 then (if i % 2 = 0 then (pp (i / 2)).1 else (pp (i / 2)).2) else if i = 200 then dT else if i = 201 then dO else if i = 310 then far t1 else if i = 311 then far t2 else if i = 312 then far t3 else 0)
    by_cases h1 : i < 42
    · rw [if_pos h1]
      obtain ⟨-, g2, g3⟩ := hpp (i / 2) (by omega)
      by_cases h2 : i % 2 = 0
      · rw [if_pos h2]; exact Or.inl (hlts g2)
      · rw [if_neg h2]; exact Or.inl (hlt g3)
    · rw [if_neg h1]
      by_cases h2 : i = 200
      · rw [if_pos h2]; exact Or.inl (hlt hT2)
      · rw [if_neg h2]
        by_cases h3 : i = 201
        · rw [if_pos h3]; exact Or.inl (hlt hO2)
        · rw [if_neg h3]
          by_cases h4 : i = 310
          · rw [if_pos h4]; exact hfl _
          · rw [if_neg h4]
            by_cases h5 : i = 311
            · rw [if_pos h5]; exact hfl _
            · rw [if_neg h5]
              by_cases h6 : i = 312
              · rw [if_pos h6]; exact hfl _
              · rw [if_neg h6]; exact Or.inl hpos
  have hK : va_K (thD θ) gcl (gtys θ) s := by
    refine ⟨fun c q hq => hDD c q hq, fun k q hq => ?_⟩
    unfold gtys at hq
    rw [List.getElem?_map] at hq
    cases ht : gcodes[k]? with
    | none => rw [ht] at hq; cases hq
    | some t =>
      rw [ht] at hq
      cases hq
      exact hcA t (List.mem_of_getElem? ht)
  have hKE : KE s := by
    refine ⟨fun w h1 h2 => ?_, fun C hC => va_AO.of (hts (.arrayOver (.object C)) (inTbl_of gAO_t _ (List.mem_map.mpr ⟨C, hC, rfl⟩))), fun q hq => ?_, fun q hq => va_Nc.of (hnw (.not (.castable q.1 q.2)) (inFl_of gNC_m _ (List.mem_map.mpr ⟨q, hq, rfl⟩)))⟩
    · have h3 := hts w h1
      cases w <;> simp [extWord] at h2 <;> exact va_any rfl h3
    · have h1 : ∀ w, w ∈ [Cond.declares q.2.1, .interfaceMethod q.2.1.cls q.2.1.cls q.2.1.name q.2.1.desc, .publicMethod q.2.2, .unhidden q.1 q.2.1.name q.2.1.desc, .castable q.1 q.2.1.cls] → w.before args s = true := fun w hw => hts w (inTbl_of gIF_t w (List.mem_flatMap.mpr ⟨q, hq, hw⟩))
      exact va_Fw.of (h1 _ (List.mem_of_getElem? (i := 0) rfl)) (h1 _ (List.mem_of_getElem? (i := 1) rfl)) (h1 _ (List.mem_of_getElem? (i := 2) rfl)) (h1 _ (List.mem_of_getElem? (i := 3) rfl)) (h1 _ (List.mem_of_getElem? (i := 4) rfl))
  have hKS : KS θ s s.heap := by
    refine ⟨fun q hq => ?_, z1, z2, hfar (t := t1) (j := 310) rfl y1, hfar (t := t2) (j := 311) rfl y2, va_Zof (m (i := 3) rfl) (m (i := 4) rfl) (va_eqt (mn (i := 2) rfl)) hna, ?_, ?_, hfar (t := t3) (j := 312) rfl y3, fun q hq => ?_, fun z hz => ?_, fun t ht => hts (.arrayOver t) (inTbl_of gAA_t _ (List.mem_map.mpr ⟨t, ht, rfl⟩))⟩
    · have h1 := List.all_eq_true.mp gSR_ok q hq
      simp only [Bool.and_eq_true, Bool.or_eq_true, decide_eq_true_eq] at h1
      obtain ⟨g2, g3⟩ := h1
      obtain ⟨e1, -, -⟩ := hpp q.2.2.2 g2
      have e2 : ad θ (gBIG + 2 * q.2.2.2) = (pp q.2.2.2).1 := by
        rw [hadr]
        show (if 2 * q.2.2.2 < 42 then (if 2 * q.2.2.2 % 2 = 0 then (pp (2 * q.2.2.2 / 2)).1 else (pp (2 * q.2.2.2 / 2)).2) else _) = _
        rw [if_pos (by omega), if_pos (by omega)]
        have : 2 * q.2.2.2 / 2 = q.2.2.2 := by omega
        rw [this]
      rw [e2]
      refine vk_R.of (hts (.stringRef q.1 q.2.1 q.2.2.1) (inTbl_of gSR_t _ (List.mem_map.mpr ⟨q, hq, rfl⟩))) ?_
      rcases g3 with g3 | g3
      · have e3 : tmI q.2.2.2 = .string q.1 q.2.1 := by
          unfold tmI
          rw [List.getD_eq_getElem?_getD, g3]; rfl
        rw [← e3]; exact e1
      · exact va_eqR (hnw (Cond.eq (tmI q.2.2.2) (.string q.1 q.2.1)) (inFl_of gEq_m _ (List.mem_map.mpr ⟨_, g3, rfl⟩))) e1
    · rw [hadr]
      exact va_Zof (m (i := 5) rfl) (m (i := 7) rfl) hT1 hna
    · rw [hadr]
      exact va_Zof (m (i := 6) rfl) (m (i := 7) rfl) hO1 hna
    · have h9 := hnw (.landsInDefault q.1 q.2 q.2) (inFl_of gDF_m _ (List.mem_map.mpr ⟨q, hq, rfl⟩))
      exact h9
    · have g3 := gPS_c z hz
      exact va_any rfl (selP (C0 := "") (hts _ (lw_all_tbl q1036)) g3.symm (hts _ (inTbl_of gPS_t _ (List.mem_map.mpr ⟨z, hz, rfl⟩))) (hts _ (inTbl_of gPS_u _ (List.mem_map.mpr ⟨z, hz, rfl⟩))) (hts _ (lw_all_tbl q1034)) (by rw [g3]; decide))
  refine ⟨θ, ⟨fun _ => rfl, fun _ _ => rfl⟩, hb, ⟨hK, hKE, hKS⟩, ?_⟩
  have hgb : ∀ i, (gBIG + i) - gBIG = i := fun i => by omega
  have hbyt : ∀ {v n : Nat} {f : Nat → Int32} (k : Nat), BytO s v n f → n < 2 ^ 31 → gBIG ≤ k → kS k = 103 → kL k = n → (∀ j, j < n → kI k j = f j) → ad θ k = v → ∃ c, s.heap[ad θ k]? = some c ∧ cellOk θ (stOf []) k c := fun {v n f} k h hn hk h1 h2 h3 h4 => by
    obtain ⟨c, g1, g2, g3, g4, g5, g6⟩ := h
    have es : sh (stOf []) k = 103 := by
      rw [so_sh]; unfold bsS; rw [if_pos hk]; exact h1
    have el : ln (stOf []) k = n := by
      rw [so_ln]; unfold bsL; rw [if_pos hk]; exact h2
    have ei : ∀ j, sI (stOf []) k j = kI k j := fun j => by
      rw [so_sI]; unfold bsI; rw [if_pos hk]
    refine ⟨c, by rw [h4]; exact g1, arrV (thA θ 103) n (fun j => sv θ (stOf []) .byte k j), ⟨fun h => by rw [es] at h; omega, fun _ => by rw [es, el]; rfl⟩, fun h => by rw [es] at h; omega, ?_, ⟨fun j w hj => ?_, by rw [arrV_size]; exact g5, fun _ _ => by rw [arrV_size]; exact hn⟩, g4, g3⟩
    · have h9 : s.vm.findClass "[B" = some (cA 103) := (hcA 103 (by decide)).2
      exact Option.some.inj (g2.symm.trans h9)
    · have hj2 : j < n := by
        have := (Array.getElem?_eq_some_iff.mp hj).1
        rwa [arrV_size] at this
      rw [arrV_read _ _ hj2] at hj
      rw [g6 j hj2, ← hj]
      show some (Value.int (f j)) = some (Value.int (sI (stOf []) k j))
      rw [ei, h3 j hj2]
  refine ⟨rfl, ?_, by decide, by decide, fun k hk => ?_, hthc, fun k hk => absurd rfl hk, fun k hk h0 => ?_⟩
  · show ((s.heap.toList.drop s.heap.size).map (·.slots.size)).sum = 0
    rw [List.drop_eq_nil_of_le (Nat.le_of_eq Array.length_toList)]
    rfl
  · have hk1 : bsS k ≠ 0 := by
      rwa [so_sh] at hk
    have hkb : gBIG ≤ k := by
      by_cases h : gBIG ≤ k
      · exact h
      · exact absurd (if_neg h) hk1
    have hk2 : kS k ≠ 0 := by
      unfold bsS at hk1
      rwa [if_pos hkb] at hk1
    obtain ⟨i, rfl⟩ : ∃ i, k = gBIG + i := ⟨k - gBIG, by omega⟩
    unfold kS at hk2
    rw [hgb] at hk2
    by_cases h42 : i < 42
    · obtain ⟨e1, e2, e3⟩ := hpp (i / 2) (by omega)
      by_cases hev : i % 2 = 0
      · have ea : ad θ (gBIG + i) = (pp (i / 2)).1 := by
          rw [hadr]
          show (if i < 42 then (if i % 2 = 0 then (pp (i / 2)).1 else (pp (i / 2)).2) else _) = _
          rw [if_pos h42, if_pos hev]
        have ea1 : ad θ (gBIG + i + 1) = (pp (i / 2)).2 := by
          have : gBIG + i + 1 = gBIG + (i + 1) := by omega
          rw [this, hadr]
          show (if i + 1 < 42 then (if (i + 1) % 2 = 0 then (pp ((i + 1) / 2)).1 else (pp ((i + 1) / 2)).2) else _) = _
          rw [if_pos (by omega), if_neg (by omega)]
          have : (i + 1) / 2 = i / 2 := by omega
          rw [this]
        obtain ⟨c, g1, g2, g3, g4, g5⟩ := e2
        have es : sh (stOf []) (gBIG + i) = 10 := by
          rw [so_sh]; unfold bsS kS; rw [if_pos hkb, hgb, if_pos h42, if_pos hev]
        have ei : ∀ j, sI (stOf []) (gBIG + i) j = kI (gBIG + i) j := fun j => by
          rw [so_sI]; unfold bsI; rw [if_pos hkb]
        have er : sR (stOf []) (gBIG + i) 0 = some (gBIG + i + 1) := by
          rw [so_sR]; unfold bsR kR; rw [if_pos hkb, hgb, if_pos ⟨h42, hev, rfl⟩]
        obtain ⟨hSl, hfc, -⟩ := hDD 9 (RJ6, TJ6, 4) rfl
        have hcl : c.cls = (DD 9).1 := Option.some.inj (g4.symm.trans hfc)
        refine ⟨c, by rw [ea]; exact g1, { c with vm := .none }, ⟨fun _ => ⟨(RJ6, TJ6, 4), by rw [es]; rfl, by rw [es]; exact hcl, rfl, fun j hj => ?_⟩, fun h => by rw [es] at h; exact absurd (by decide) h⟩, fun h => ?_, rfl, ⟨fun j w hw => hw, rfl, fun _ h => by rw [es] at h; omega⟩, g3, g2⟩
        · rw [es]
          show c.slots[(DD 9).2 j]? = some (sv θ (stOf []) (tyJ6 j) (gBIG + i) j)
          obtain ⟨cf, kf, fi, fd, k1, k2⟩ := hSl j hj
          rw [← k2]
          have hfind : ∀ (f d : String) (x : Value), (f, d, x) ∈ [("coder", "B", Value.int 0), ("value", "[B", Value.ref (pp (i / 2)).2), ("hash", "I", Value.int (kHs.getD (i / 2) 0)), ("hashIsZero", "Z", Value.int (zrI (i / 2)))] → s.fieldFound? "java/lang/String" f d = some (cf, kf, fi, fd) → c.slots[fd.slot]? = some x := fun f d x hx hf => by
            obtain ⟨cf', k', fi', fd', m1, m2⟩ := g5 f d x hx
            have m3 := m1.symm.trans hf
            injection m3 with m3
            have m4 : fd' = fd := congrArg (fun z => z.2.2.2) m3
            rw [← m4]; exact m2
          have hki : ∀ j, kI (gBIG + i) j = if j = 2 then kHs.getD (i / 2) 0 else if j = 3 ∧ gBIG + i = gBIG then 1 else 0 := fun j => by
            unfold kI
            rw [hgb, if_pos h42, if_pos hev]
          have hj4 : j < 4 := hj
          rcases (by omega : j = 0 ∨ j = 1 ∨ j = 2 ∨ j = 3) with rfl | rfl | rfl | rfl
          · rw [hfind "value" "[B" (.ref (pp (i / 2)).2) (by simp) k1]
            show some (Value.ref _) = some (rv θ (sR (stOf []) (gBIG + i) 0))
            rw [er]
            show _ = some (Value.ref (ad θ (gBIG + i + 1)))
            rw [ea1]
          · rw [hfind "coder" "B" (.int 0) (by simp) k1]
            show _ = some (Value.int (sI (stOf []) (gBIG + i) 1))
            rw [ei, hki]; rfl
          · rw [hfind "hash" "I" (.int (kHs.getD (i / 2) 0)) (by simp) k1]
            show _ = some (Value.int (sI (stOf []) (gBIG + i) 2))
            rw [ei, hki]; rfl
          · rw [hfind "hashIsZero" "Z" (.int (zrI (i / 2))) (by simp) k1]
            show _ = some (Value.int (sI (stOf []) (gBIG + i) 3))
            rw [ei, hki, if_neg (by decide)]
            unfold zrI
            by_cases h0 : i = 0
            · subst h0; rfl
            · rw [if_neg (by omega), if_neg (by omega)]
        · rw [es] at h; rcases h with h | h
          · omega
          · exact absurd rfl h.2
      · refine hbyt (gBIG + i) e3 ?_ hkb ?_ ?_ (fun j hj => ?_) ?_
        · have h9 : ((List.range 21).all fun i => decide (lnI i < 2 ^ 31)) = true := by decide +kernel
          exact of_decide_eq_true (List.all_eq_true.mp h9 (i / 2) (List.mem_range.mpr (by omega)))
        · unfold kS; rw [hgb, if_pos h42, if_neg hev]
        · unfold kL; rw [hgb, if_pos h42, if_neg hev]; rfl
        · unfold kI; rw [hgb, if_pos h42, if_neg hev]; rfl
        · rw [hadr]
          show (if i < 42 then (if i % 2 = 0 then (pp (i / 2)).1 else (pp (i / 2)).2) else _) = _
          rw [if_pos h42, if_neg hev]
    · rw [if_neg h42] at hk2
      by_cases h200 : i = 200
      · subst h200
        refine hbyt (gBIG + 200) hT2 (by decide) hkb (by decide +kernel) (by decide +kernel) (fun j hj => ?_) (hadr 200)
        unfold kI; rw [hgb]; rfl
      · by_cases h201 : i = 201
        · subst h201
          refine hbyt (gBIG + 201) hO2 (by decide) hkb (by decide +kernel) (by decide +kernel) (fun j hj => ?_) (hadr 201)
          unfold kI; rw [hgb]; rfl
        · rw [if_neg (by omega)] at hk2
          exact absurd rfl hk2
  · refine ⟨?_, fun _ => ?_, fun j => ?_, fun j => ?_⟩
    · rw [so_sh]; unfold bsS; rw [if_pos hk]
    · rw [so_ln]; unfold bsL; rw [if_pos hk]
    · rw [so_sI]; unfold bsI; rw [if_pos hk]
    · rw [so_sR]; unfold bsR; rw [if_pos hk]
