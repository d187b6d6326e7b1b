/-! MY OWN LAYER, 5: what the JDK and the machine throw, constants, casts, references in arrays -/
section MORE0
variable {p : Program} {l : Launch} {e : Env} {R : Room} {s : State} {m : MethodId} {args : Array Value} {below : List Frame} {meth : Method} {c : Code} {H : Heap} {locs : List Loc} {cells slots : Nat} {Q : State → Prop}
theorem vx_bound {b : Nat} {g : JFrame} {q : Addr} (hb : b ≤ s.heap.size) (k : H.size ≤ s.heap.size + cells → slotSum H b ≤ slotSum s.heap b + slots → vx_W p l e R s m args below meth c H locs cells slots Q g q) : vx_W p l e R s m args below meth c H locs cells slots Q g q := by
  intro T hT X
  obtain ⟨e1, e2, e3, e4, e5, e6⟩ := X.same
  have f2 : s.heap.size ≤ T.heap.size := e2
  have f6 : ∀ (q : Nat) (c : Cell), s.heap[q]? = some c → ∃ c' : Cell, T.heap[q]? = some c' ∧ c'.slots.size = c.slots.size := fun q c hc => by
    obtain ⟨c', g1, g2, g3, g4⟩ := e6 q c hc
    exact ⟨c', g1, g3⟩
  have f7 := ss_split f2 f6 hb
  have f3 : T.heap.size ≤ s.heap.size + cells := e3
  have f5 : ((T.heap.toList.drop s.heap.size).map (·.slots.size)).sum ≤ slots := e5
  subst hT
  exact k f3 (by omega) T rfl X
end MORE0
def atOK (L : List Cond) : Bool := L.all fun w => goodWord w || extWord w
theorem at_of {L : List Cond} (h1 : ∀ w ∈ L, w ∈ lw_tbl) (h2 : atOK L = true) {s : State} {args : Array Value} (hts : ∀ w ∈ lw_all, w.before args s = true) (hK : KE s) : ∀ w ∈ L, w.before args s = true := by
  intro w hw
  have h3 := List.all_eq_true.mp h2 w hw
  simp only [Bool.or_eq_true] at h3
  by_cases g : goodWord w = true
  · exact hts w (List.mem_filter.mpr ⟨h1 w hw, g⟩)
  · rcases h3 with h3 | h3
    · exact absurd h3 g
    · have h4 := hK.1 w (h1 w hw) h3
      cases w <;> simp [extWord] at h3 <;> exact va_Nw.use rfl h4
theorem otOK {L : List Cond} (h2 : atOK L = true) : ∀ w ∈ L, vx_ot w = true := by
  intro w hw
  have h3 := List.all_eq_true.mp h2 w hw
  simp only [Bool.or_eq_true] at h3
  unfold vx_ot
  rcases h3 with h3 | h3
  · rw [h3]; simp
  · cases w <;> simp [extWord] at h3 <;> rfl
/-- each of these words stands in the tables: by their places -/
def inTbl (L : List Cond) (ps : List Nat) : Prop := L = ps.filterMap (fun i => lw_tbl[i]?)
theorem inTbl_of {L : List Cond} {ps : List Nat} (h : inTbl L ps) : ∀ w ∈ L, w ∈ lw_tbl := by
  intro w hw
  rw [h] at hw
  obtain ⟨i, -, hi⟩ := List.mem_filterMap.mp hw
  exact List.mem_of_getElem? hi

def nmA : List String := ["java/lang/RuntimeException", "java/lang/Exception"]
def nmI : List String := ["java/lang/IndexOutOfBoundsException", "java/lang/RuntimeException", "java/lang/Exception"]
theorem wA_in : inTbl (vx_atS "java/lang/Math" 113 "java/lang/ArithmeticException" nmA) [137, 445, 454, 473, 476, 478, 446, 447, 168, 169, 448, 453, 474, 495, 435, 496, 437, 497, 439, 449, 451, 441, 589, 590, 494, 441, 733, 734, 735, 583, 427, 583, 584, 585, 586, 429, 586, 587, 588, 589, 431, 732, 723, 724, 725, 457, 726, 727, 728, 729, 444, 443, 730] := by unfold inTbl; decide +kernel
theorem wA_ok : atOK (vx_atS "java/lang/Math" 113 "java/lang/ArithmeticException" nmA) = true := by decide +kernel
theorem wZ_in : inTbl (vx_atM "java/lang/ArithmeticException" nmA) [137, 445, 454, 473, 476, 478, 446, 447, 168, 169, 448, 453, 474, 495, 435, 496, 437, 497, 439, 449, 451, 441, 589, 590, 494, 441, 733, 734, 735, 583, 427, 583, 584, 585, 586, 429, 586, 587, 588, 589, 431, 144, 602, 259, 603, 605, 604, 606, 148, 723, 724, 725, 457, 726, 727, 728, 729, 444, 443, 730] := by unfold inTbl; decide +kernel
theorem wZ_ok : atOK (vx_atM "java/lang/ArithmeticException" nmA) = true := by decide +kernel
theorem wI_in : inTbl (vx_atM "java/lang/ArrayIndexOutOfBoundsException" nmI) [137, 445, 454, 473, 476, 478, 446, 447, 168, 169, 448, 453, 474, 495, 435, 496, 437, 497, 439, 449, 451, 441, 589, 590, 494, 441, 577, 578, 579, 580, 600, 580, 581, 582, 583, 427, 583, 584, 585, 586, 429, 586, 587, 588, 589, 431, 144, 602, 259, 603, 605, 604, 606, 143, 576, 598, 601, 458, 593, 594, 596, 592, 444, 443, 591] := by unfold inTbl; decide +kernel
theorem wI_ok : atOK (vx_atM "java/lang/ArrayIndexOutOfBoundsException" nmI) = true := by decide +kernel
theorem wN_in : inTbl (vx_atN 8) [137, 445, 454, 473, 476, 478, 446, 447, 168, 169, 448, 453, 474, 495, 435, 496, 437, 497, 439, 449, 451, 441, 470, 460, 461, 560, 562, 467, 468, 574, 551, 552, 553, 554, 426, 554, 555, 556, 557, 428, 557, 558, 559, 446, 430, 141, 465, 572, 573, 459, 568, 569, 571, 444, 443, 566] := by unfold inTbl; decide +kernel
theorem wN_ok : atOK (vx_atN 8) = true := by decide +kernel
section MORE
variable {θ : Th} {κ : Kx} {Φ : Ph} {y : MethodName} {cc : ByteArray} {nL : Nat} {ret : Option FieldType} {hh : List (Nat × Nat × Nat × Nat)} {d : Nat} {st : St} {pc : Nat} {lo : List (Nat × Value)} {stk : List Value}
theorem jk_of {H H1 : Heap} (hW : Wd θ st H) (h1 : H.size ≤ H1.size) (h2 : ∀ q : Nat, q < H.size → H1[q]? = H[q]?) {x z : Nat} (h3 : H1.size ≤ H.size + x) (h4 : slotSum H1 (thb θ) ≤ slotSum H (thb θ) + z) (hN : sN st + x ≤ gCAP) (hS : sS st + z ≤ gCAPS) : ∃ a b, a ≤ x ∧ b ≤ z ∧ Wd θ (jk st a b) H1 := by
  have h5 : slotSum H (thb θ) ≤ slotSum H1 (thb θ) := ss_mono h1 (fun q c hc => ⟨c, by rw [h2 q (Array.getElem?_eq_some_iff.mp hc).1]; exact hc, rfl⟩) (by have := hW.1; omega)
  exact ⟨H1.size - H.size, slotSum H1 (thb θ) - slotSum H (thb θ), by omega, by omega, Wd_jk hW (by omega) h2 (by omega) (by omega) (by omega)⟩
/-- Math: new ArithmeticException("long overflow"), thrown -/
theorem X_throwM (C : Cx θ κ y cc nL ret hh d) (hy : y.cls = "java/lang/Math") (hhe : hh = []) (hk : Cond.classLink "java/lang/Math" 109 "java/lang/ArithmeticException" ∈ lw_all) (hini : Cond.initialized "java/lang/ArithmeticException" ∈ lw_all)
    (d0 : decode cc pc = .ok (.new 109, 3)) (d3 : decode cc (pc + 3) = .ok (.dup, 1)) (d4 : decode cc (pc + 4) = .ok (.ldc 116, 2)) (d6 : decode cc (pc + 6) = .ok (.invokespecial 113, 3)) (d9 : decode cc (pc + 9) = .ok (.athrow, 1)) (hrest : (stk.map fun v => v.category).sum ≤ 8)
    (hN : sN st + 1 ≤ gCAP) (hSl : sS st + 6 ≤ gCAPS) (hΦ : ∀ a b q, a ≤ 1 → b ≤ 6 → Φ.2 (jk st a b) "java/lang/ArithmeticException" q) : X θ κ Φ st pc lo stk := by
  obtain ⟨p, l, e, R, s, m, args, below, meth, c, st0⟩ := κ
  obtain ⟨hx, hb, hml, hown, hts, hr, hlk, htb, hK, hW0, hR, hst, hnm⟩ := C
  intro H locs ls cells slots hW hE hl hS
  have hb0 : thb θ ≤ s.heap.size := by have := hW0.1; omega
  refine W_narrow hb0 (fun f1 f2 => ?_)
  have g1 := hW0.1
  have g2 := hW.1
  have g3 := hW.2.2.1
  have g4 := hW0.2.1
  have g5 := hW.2.1
  have g6 := hW.2.2.2.1
  rw [hy] at hown
  have hsr : vk_R "java/lang/Math" 116 "long overflow" (ad θ (gBIG + 2 * 1)) s := hK.2.2.1 ("java/lang/Math", 116, "long overflow", 1) (by decide +kernel)
  refine vx_throwS hx hb hst (own := "java/lang/Math") (cls := "java/lang/ArithmeticException") (text := "long overflow") (names := nmA) (ik := 109) (is := 116) (ic := 113) (A := Af θ) hown (by decide +kernel) (by decide +kernel) (hts _ hk) (hts _ hini) hsr (at_of (inTbl_of wA_in) wA_ok hts hK.2.1) ?_ hK.2.2.2.1 hK.2.2.2.2.1 hS hl.1 d0 d3 d4 d6 d9 (by rw [htb, hhe]; intro x hx; cases hx) (by subst hR; show 2 + 3 < d + 20; omega) (by subst hR; show (stk.map fun v => v.category).sum + (13 * (2 + 1) + 43) ≤ 60 * d + 10600; omega) (by subst hR; show _ ≤ gCAP - sN st0; omega) (by subst hR; show _ ≤ gCAPS - sS st0; omega) hlk ?_ hS.2.2 (by omega) (by omega)
  · intro w hw
    rcases List.mem_cons.mp hw with rfl | hw
    · rfl
    · rcases List.mem_cons.mp hw with rfl | hw
      · rfl
      · exact otOK wA_ok w hw
  · intro t hal h1 h2 h3 h4
    have h5 := ss_split h1 (fun q c hc => ⟨c, by rw [h2 q (Array.getElem?_eq_some_iff.mp hc).1]; exact hc, rfl⟩) (show thb θ ≤ H.size by omega)
    obtain ⟨a, b, ha, hb2, hW2⟩ := jk_of hW h1 h2 h3 (show slotSum t.heap (thb θ) ≤ slotSum H (thb θ) + 6 by omega) hN hSl
    exact ⟨⟨jk st a b, hΦ a b _ ha hb2, hW2, Ext_tr hE Ext_jk⟩, Nat.le_trans hS.1 h1, fun q h8 h9 => (h2 q (Nat.lt_of_lt_of_le h8 hS.1)).trans (hS.2.1 q h8 h9)⟩
/-- the machine throws E with a text -/
def XNote (θ : Th) (κ : Kx) (Φ : Ph) (st : St) (pc : Nat) (lo : List (Nat × Value)) (stk : List Value) (E text : String) : Prop := match κ with
  | (p, l, e, R, s, m, args, below, meth, c, st0) => ∀ (H : Heap) (locs : List Loc) (ls : Array Slot) (cells slots : Nat), Wd θ st H → Ext st0 st → lv_has ls c.maxLocals lo → va_S (Af θ) s.heap H locs →
    vx_Note p l e R s m args below meth c H locs cells slots (vx_MQ below (Qn θ st0 Φ) (Qe θ st0 Φ) args s (gCAP - sN st0) (gCAPS - sS st0) (Af θ)) (F0 m pc ls stk) E text
def XNoteN (θ : Th) (κ : Kx) (Φ : Ph) (st : St) (pc : Nat) (lo : List (Nat × Value)) (stk : List Value) : Prop := match κ with
  | (p, l, e, R, s, m, args, below, meth, c, st0) => ∀ (H : Heap) (locs : List Loc) (ls : Array Slot) (cells slots : Nat), Wd θ st H → Ext st0 st → lv_has ls c.maxLocals lo → va_S (Af θ) s.heap H locs →
    vx_NoteN p l e R s m args below meth c H locs cells slots (vx_MQ below (Qn θ st0 Φ) (Qe θ st0 Φ) args s (gCAP - sN st0) (gCAPS - sS st0) (Af θ)) (F0 m pc ls stk)
theorem note_narrow {p : Program} {l : Launch} {e : Env} {R : Room} {s : State} {m : MethodId} {args : Array Value} {below : List Frame} {meth : Method} {c : Code} {H : Heap} {locs : List Loc} {cells slots : Nat} {Q : State → Prop} {b : Nat} {g : JFrame} {E text : String} (hb : b ≤ s.heap.size) (k : s.heap.size ≤ H.size → slotSum s.heap b ≤ slotSum H b → vx_Note p l e R s m args below meth c H locs (H.size - s.heap.size) (slotSum H b - slotSum s.heap b) Q g E text) : vx_Note p l e R s m args below meth c H locs cells slots Q g E text := by
  intro T hT X
  obtain ⟨X', h1, h2⟩ := stand_narrow hb X
  subst hT
  exact k h1 h2 T rfl X'
theorem noteN_narrow {p : Program} {l : Launch} {e : Env} {R : Room} {s : State} {m : MethodId} {args : Array Value} {below : List Frame} {meth : Method} {c : Code} {H : Heap} {locs : List Loc} {cells slots : Nat} {Q : State → Prop} {b : Nat} {g : JFrame} (hb : b ≤ s.heap.size) (k : s.heap.size ≤ H.size → slotSum s.heap b ≤ slotSum H b → vx_NoteN p l e R s m args below meth c H locs (H.size - s.heap.size) (slotSum H b - slotSum s.heap b) Q g) : vx_NoteN p l e R s m args below meth c H locs cells slots Q g := by
  intro T hT X
  obtain ⟨X', h1, h2⟩ := stand_narrow hb X
  subst hT
  exact k h1 h2 T rfl X'
theorem note_of (C : Cx θ κ y cc nL ret hh d) {E text : String} {names : List String} {nb : Nat} (hcls : Bundle.fit E = true) (hnames : ∀ n ∈ names, Bundle.fit n = true) (hsoe : (E == "java/lang/StackOverflowError") = false) (hoom : (E == "java/lang/OutOfMemoryError") = false) (hin : ∀ w ∈ vx_atM E names, w ∈ lw_tbl) (hok : atOK (vx_atM E names) = true)
    (htext : (text == notModelled) = false) (hnb : (stringBytes (stringToUtf16 text)).size ≤ nb) (hnb1 : nb ≤ 1000) (hlen : names.length ≤ 6) (hrest : (stk.map fun v => v.category).sum ≤ 8) (hN : sN st + 3 ≤ gCAP) (hSl : sS st + (nb + 10) ≤ gCAPS)
    (k : ∀ a b q, a ≤ 3 → b ≤ nb + 10 → XT θ κ Φ (jk st a b) pc lo E q) : XNote θ κ Φ st pc lo stk E text := by
  obtain ⟨p, l, e, R, s, m, args, below, meth, c, st0⟩ := κ
  obtain ⟨hx, hb, hml, hown, hts, hr, hlk, htb, hK, hW0, hR, hst, hnm⟩ := C
  intro H locs ls cells slots hW hE hl hS
  have hb0 : thb θ ≤ s.heap.size := by have := hW0.1; omega
  refine note_narrow hb0 (fun f1 f2 => ?_)
  have g1 := hW0.1
  have g2 := hW.1
  have g3 := hW.2.2.1
  have g4 := hW0.2.1
  have g5 := hW.2.1
  have g6 := hW.2.2.2.1
  refine vx_vm hx hst (names := names) (nb := nb) (A := Af θ) hcls hnames hsoe hoom (at_of hin hok hts hK.2.1) (otOK hok) hK.2.2.2.1 hK.2.2.2.2.1 hS hl.1 htext hnb hnb1 (by subst hR; show names.length + 4 < d + 20; omega) (by subst hR; show (stk.map fun v => v.category).sum + 10240 ≤ 60 * d + 10600; omega) (by omega) (by subst hR; show _ ≤ gCAP - sN st0; omega) (by subst hR; show _ ≤ gCAPS - sS st0; omega) hlk ?_
  intro H1 q9 ce h1 h2 hS1 hce hcv hcl
  refine vx_bound hb0 (fun b1 b2 => ?_)
  obtain ⟨a, b, ha, hb2, hW2⟩ := jk_of hW h1 h2 (x := 3) (z := nb + 10) (by omega) (by omega) hN hSl
  exact k a b q9 ha hb2 H1 locs ls _ _ stk ce hW2 (Ext_tr hE Ext_jk) hl hS1 hce hcv hcl
theorem noteN_of (C : Cx θ κ y cc nL ret hh d) (hrest : (stk.map fun v => v.category).sum ≤ 8) (hN : sN st + 1 ≤ gCAP) (hSl : sS st + 8 ≤ gCAPS)
    (k : ∀ a b q, a ≤ 1 → b ≤ 8 → XT θ κ Φ (jk st a b) pc lo "java/lang/NullPointerException" q) : XNoteN θ κ Φ st pc lo stk := by
  obtain ⟨p, l, e, R, s, m, args, below, meth, c, st0⟩ := κ
  obtain ⟨hx, hb, hml, hown, hts, hr, hlk, htb, hK, hW0, hR, hst, hnm⟩ := C
  intro H locs ls cells slots hW hE hl hS
  have hb0 : thb θ ≤ s.heap.size := by have := hW0.1; omega
  refine noteN_narrow hb0 (fun f1 f2 => ?_)
  have g1 := hW0.1
  have g2 := hW.1
  have g3 := hW.2.2.1
  have g4 := hW0.2.1
  have g5 := hW.2.1
  have g6 := hW.2.2.2.1
  refine vx_npe hx hst (nb := 8) (A := Af θ) (at_of (inTbl_of wN_in) wN_ok hts hK.2.1) (otOK wN_ok) hK.2.2.2.1 hK.2.2.2.2.1 hS hl.1 (by subst hR; show 7 < d + 20; omega) (by subst hR; show (stk.map fun v => v.category).sum + 10240 ≤ 60 * d + 10600; omega) (by subst hR; show _ ≤ gCAP - sN st0; omega) (by subst hR; show _ ≤ gCAPS - sS st0; omega) hlk ?_
  intro H1 q9 ce h1 h2 hS1 hce hcv hcl
  refine vx_bound hb0 (fun b1 b2 => ?_)
  obtain ⟨a, b, ha, hb2, hW2⟩ := jk_of hW h1 h2 (x := 1) (z := 8) (by omega) (by omega) hN hSl
  exact k a b q9 ha hb2 H1 locs ls _ _ stk ce hW2 (Ext_tr hE Ext_jk) hl hS1 hce hcv hcl
theorem X_lremZ (C : Cx θ κ y cc nL ret hh d) {a b : Int64} (h0 : b = 0) (dg : decode cc pc = .ok (.lrem, 1)) (hrest : (stk.map fun v => v.category).sum ≤ 8) (hN : sN st + 3 ≤ gCAP) (hSl : sS st + 40 ≤ gCAPS) (k : ∀ a b q, a ≤ 3 → b ≤ 40 → XT θ κ Φ (jk st a b) pc lo "java/lang/ArithmeticException" q) : X θ κ Φ st pc lo (.long b :: .long a :: stk) := by
  have kk : XNote θ κ Φ st pc lo stk "java/lang/ArithmeticException" "/ by zero" := note_of C (names := nmA) (nb := 30) (by decide +kernel) (by decide +kernel) (by decide +kernel) (by decide +kernel) (inTbl_of wZ_in) wZ_ok (by decide +kernel) (by decide +kernel) (by decide) (by decide) hrest hN hSl k
  obtain ⟨p, l, e, R, s, m, args, below, meth, c, st0⟩ := κ
  obtain ⟨hx, hb, -⟩ := C
  intro H locs ls cells slots hW hE hl hS
  exact vx_lremZ hx hb h0 dg (kk H locs ls cells slots hW hE hl hS)
theorem X_ldivZ (C : Cx θ κ y cc nL ret hh d) {a b : Int64} (h0 : b = 0) (dg : decode cc pc = .ok (.ldiv, 1)) (hrest : (stk.map fun v => v.category).sum ≤ 8) (hN : sN st + 3 ≤ gCAP) (hSl : sS st + 40 ≤ gCAPS) (k : ∀ a b q, a ≤ 3 → b ≤ 40 → XT θ κ Φ (jk st a b) pc lo "java/lang/ArithmeticException" q) : X θ κ Φ st pc lo (.long b :: .long a :: stk) := by
  have kk : XNote θ κ Φ st pc lo stk "java/lang/ArithmeticException" "/ by zero" := note_of C (names := nmA) (nb := 30) (by decide +kernel) (by decide +kernel) (by decide +kernel) (by decide +kernel) (inTbl_of wZ_in) wZ_ok (by decide +kernel) (by decide +kernel) (by decide) (by decide) hrest hN hSl k
  obtain ⟨p, l, e, R, s, m, args, below, meth, c, st0⟩ := κ
  obtain ⟨hx, hb, -⟩ := C
  intro H locs ls cells slots hW hE hl hS
  exact vx_ldivZ hx hb h0 dg (kk H locs ls cells slots hW hE hl hS)
theorem X_ldcs (C : Cx θ κ y cc nL ret hh d) {k : Nat} {tx : String} {i : Nat} (hm : (y.cls, k, tx, i) ∈ gSR) (dg : decode cc pc = .ok (.ldc k, 2)) (kk : X θ κ Φ st (pc + 2) lo (.ref (ad θ (gBIG + 2 * i)) :: stk)) : X θ κ Φ st pc lo stk := by
  obtain ⟨p, l, e, R, s, m, args, below, meth, c, st0⟩ := κ
  obtain ⟨hx, hb, hml, hown, hts, hr, hlk, htb, hK, hW0, hR, hst, hnm⟩ := C
  have hsr := hK.2.2.1 _ hm
  intro H locs ls cells slots hW hE hl hS
  exact va_ldcS hx hb hown hsr dg (kk H locs ls cells slots hW hE hl hS)
theorem X_getsZ (C : Cx θ κ y cc nL ret hh d) {Cn n dd ref : String} {idx : Nat} {v : Value} (hZ : ∀ s : State, KS θ s s.heap → va_Z Cn n dd v (Af θ) s s.heap) (hlink : Cond.fieldLink y.cls idx ref n dd ∈ lw_all) (hsame : ref = Cn) (dg : decode cc pc = .ok (.getstatic idx, 3)) (k : X θ κ Φ st (pc + 3) lo (v :: stk)) : X θ κ Φ st pc lo stk := by
  obtain ⟨p, l, e, R, s, m, args, below, meth, c, st0⟩ := κ
  obtain ⟨hx, hb, hml, hown, hts, hr, hlk, htb, hK, hW0, hR, hst, hnm⟩ := C
  subst hsame
  intro H locs ls cells slots hW hE hl hS
  exact va_gets hx hb (hZ s hK.2.2) hS hown (hts _ hlink) (fun _ h => h) dg (k H locs ls cells slots hW hE hl hS)
theorem X_getsE (C : Cx θ κ y cc nL ret hh d) {Cn n dd ref : String} {idx : Nat} (hZ : ∀ s : State, KS θ s s.heap → ∃ r, va_Z Cn n dd (rv θ r) (Af θ) s s.heap) (hlink : Cond.fieldLink y.cls idx ref n dd ∈ lw_all) (hsame : ref = Cn) (dg : decode cc pc = .ok (.getstatic idx, 3)) (k : ∀ r, X θ κ Φ st (pc + 3) lo (rv θ r :: stk)) : X θ κ Φ st pc lo stk := by
  obtain ⟨p, l, e, R, s, m, args, below, meth, c, st0⟩ := κ
  obtain ⟨hx, hb, hml, hown, hts, hr, hlk, htb, hK, hW0, hR, hst, hnm⟩ := C
  subst hsame
  intro H locs ls cells slots hW hE hl hS
  obtain ⟨r, hZ9⟩ := hZ s hK.2.2
  exact va_gets hx hb hZ9 hS hown (hts _ hlink) (fun _ h => h) dg (k r H locs ls cells slots hW hE hl hS)
end MORE
/-- Math's rows of the model are only those on floats and doubles -/
def mathFloat : List String := ["(D)D", "(DD)D", "(DDD)D", "(F)F", "(FF)F", "(FFF)F"]
theorem Math_rows : (Jvm.natives.all fun r => r.cls != "java/lang/Math" || mathFloat.contains r.desc) = true := by decide +kernel
theorem Math_plain {x : MethodName} (hc : x.cls = "java/lang/Math") (hd : mathFloat.contains x.desc = false) : plainFor x = true := by
  unfold plainFor
  rw [Bool.or_eq_true]; right
  rw [Option.isNone_iff_eq_none, NativeRow.find?, List.find?_eq_none]
  intro r hr h
  have := List.all_eq_true.mp Math_rows r hr
  simp only [Bool.and_eq_true, beq_iff_eq] at h
  rw [h.1.2, h.2, hc, hd] at this
  simp at this
