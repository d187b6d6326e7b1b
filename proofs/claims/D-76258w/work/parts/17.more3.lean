/-! MY OWN LAYER, 7: inherited calls, calls by an interface, nulls, places outside an array -/
section MORE3
variable {θ : Th} {κ : Kx} {Φ Ψ : Ph} {y : MethodName} {cc : ByteArray} {nL : Nat} {ret : Option FieldType} {hh : List (Nat × Nat × Nat × Nat)} {d : Nat} {st : St} {pc : Nat} {lo : List (Nat × Value)} {stk : List Value}
theorem run_X5 {p : Program} {l : Launch} {e : Env} {R : Room} {s : State} {m : MethodId} {args : Array Value} {below : List Frame} {meth : Method} {c : Code} {st0 : St} {H : Heap} {locs : List Loc} {ls : Array Slot} {cells slots mc ms : Nat} {rest : List Value} {a : Array Value}
    (hr : vx_Run5 p l e R s m args below meth c H locs cells slots mc ms (F0 m pc ls stk) rest (Qn θ st Ψ a) (Qe θ st Ψ) (Af θ)) (hE : Ext st0 st) (hl : lv_has ls c.maxLocals lo) (hS : va_S (Af θ) s.heap H locs)
    (kn : ∀ st2 v, Ext st st2 → Ψ.1 st2 v → X θ (p, l, e, R, s, m, args, below, meth, c, st0) Φ st2 (pc + 5) lo (v.toList ++ rest)) (kx : ∀ st2 E q, Ext st st2 → Ψ.2 st2 E q → XT θ (p, l, e, R, s, m, args, below, meth, c, st0) Φ st2 pc lo E q) :
    W p l e R s m args below meth c H locs cells slots (vx_MQ below (Qn θ st0 Φ) (Qe θ st0 Φ) args s (gCAP - sN st0) (gCAPS - sS st0) (Af θ)) (F0 m pc ls stk) := by
  intro T hT Xs
  rcases hr T hT Xs with ⟨v, st₀, t, T', L, h0, X', hL, e1, e2, ⟨⟨st2, v2, hv, hp, hw, he⟩, hF⟩, stp⟩ | ⟨q, st₀, t, T', L, E, ce, h0, X', hL, e1, e2, ⟨⟨st2, hp, hw, he⟩, hF⟩, hce, hcv, hcl, stp⟩
  · cases hv
    obtain ⟨k1, k2, k3⟩ := vx_keep h0 e1 hS (fun q _ h => h) (fun q h => h) hL hF
    obtain ⟨t2, a1, b1⟩ := kn st2 v he hp T'.heap (locs ++ L) ls _ _ (by rw [e1]; exact hw) (Ext_tr hE he) hl k3 T' rfl X'
    exact ⟨t2, stp t2 a1, b1⟩
  · obtain ⟨k1, k2, k3⟩ := vx_keep h0 e1 hS (fun q _ h => h) (fun q h => h) hL hF
    obtain ⟨t2, a1, b1⟩ := kx st2 E q he hp T'.heap (locs ++ L) ls _ _ rest ce (by rw [e1]; exact hw) (Ext_tr hE he) hl k3 (by rw [e1]; exact hce) hcv hcl T' rfl X'
    exact ⟨t2, stp.trans a1, b1⟩
/-- 'selects' of a private method that the object's class inherits -/
theorem selP {s : State} {args : Array Value} {C C0 : String} {y z : MethodName} (hz : (Cond.selects C z z).before args s = true) (hcls : z.cls = y.cls) (hpriv : (Cond.privateMethod y).before args s = true) (hinst : (Cond.instanceMethod y).before args s = true) (hiz : (Cond.instanceMethod z).before args s = true) (hy : y.cls ≠ "java/lang/invoke/MethodHandle" ∧ y.cls ≠ "java/lang/invoke/VarHandle") : (Cond.selects C y y).before args s = true := by
  obtain ⟨c2, r2, m2, q1, q2, q3, q4, kP, hkP, hkPi⟩ := Cond.selects_spec hz
  obtain ⟨mz, methZ, hnz, hmz, -, -⟩ := Cond.instanceMethod_spec hiz
  have e9 : mz = m2 := Option.some.inj (hnz.symm.trans q3)
  subst e9
  obtain ⟨mk, methM, hnamed, hmethM, -, -⟩ := Cond.instanceMethod_spec hinst
  have hfound : s.methodFound? y.cls y.name y.desc = some mk := State.methodFound?_of_named hnamed hy
  have hcl : mk.cls = mz.cls := Option.some.inj ((findClass_of_methodNamed hnamed).symm.trans (hcls ▸ findClass_of_methodNamed hnz))
  have hsel : selectMethod {} s.vm c2 mk = .method mk := selectMethod_private hmethM (Cond.privateMethod_at hpriv mk methM hnamed hmethM)
  simp only [Cond.before, Cond.holds, Cond.value, q1, hfound, hnamed, hsel, hcl, hkP]
  simp; exact hkPi
theorem X_callU (C : Cx θ κ y cc nL ret hh d) {x2 y2 : MethodName} {by2 : ByteArray} {maxL : Nat} {idx d2 : Nat} {As rest : List Value} {ret2 : Option FieldType} {n : Nat} {ci a : Nat} {q : vw_C} {owner : String} (hc : gcl[ci]? = some q) (hsh : sh st a = ci + 1) (hq1 : Cond.methodLink y.cls idx x2 ∈ lw_all) (hsm : Cond.sameMethod x2.cls owner x2.name x2.desc ∈ lw_all) (hdecl : ∀ (s : State) (args : Array Value), (∀ w ∈ lw_all, w.before args s = true) → KE s → va_Decl s ⟨owner, x2.name, x2.desc⟩) (hsel : ∀ (s : State) (args : Array Value), (∀ w ∈ lw_all, w.before args s = true) → KS θ s s.heap → (Cond.selects q.1 x2 y2).before args s = true) (hq2 : Cond.instanceMethod y2 ∈ lw_all) (hq4 : Cond.initialized y2.cls ∈ lw_all) (hq5 : Cond.code y2 by2 maxL ret2 ∈ lw_all) (hnm2 : owner ≠ "java/lang/invoke/MethodHandle" ∧ owner ≠ "java/lang/invoke/VarHandle" ∧ (parseMethodDescriptor x2.desc).map (fun d => d.parameters.length) = some n) (hn : As.length = n) (dg : decode cc pc = .ok (.invokevirtual idx, 3)) (hM : Ct θ κ.2.1 y2 (ws_ y2 by2 maxL ret2) d2 (.ref (ad θ a) :: As) st Ψ) (hd : d2 < d) (hmL : maxL ≤ 40) (hrest : (rest.map fun v => v.category).sum ≤ 8) (kn : ∀ st2 v, Ext st st2 → Ψ.1 st2 v → X θ κ Φ st2 (pc + 3) lo (v.toList ++ rest)) (kx : ∀ st2 E q, Ext st st2 → Ψ.2 st2 E q → XT θ κ Φ st2 pc lo E q) : X θ κ Φ st pc lo (As.reverse ++ .ref (ad θ a) :: rest) := by
  obtain ⟨p, l, e, R, s, m, args, below, meth, c, st0⟩ := κ
  obtain ⟨hx, hb, hml, hown, hts, hr, hlk, htb, hK, hW0, hR, hst, hnm⟩ := C
  intro H locs ls cells slots hW hE hl hS
  have hb0 : thb θ ≤ s.heap.size := by have := hW0.1; omega
  refine W_narrow hb0 (fun f1 f2 => ?_)
  have g1 := hW0.1
  have g2 := hW.1
  have g3 := hW.2.2.1
  have g4 := hW0.2.1
  have g5 := hW.2.1
  have g6 := hW.2.2.2.1
  have cw : va_CU R s args y.cls q.1 owner idx x2 y2 by2 maxL ret2 (ws_ y2 by2 maxL ret2) (rmD d2 st) (gCAP - sN st) (gCAPS - sS st) n := by
    refine ⟨⟨rfl, rfl, by subst hR; show d2 + 20 + 1 ≤ d + 20; omega, by subst hR; show 8 + (maxL + 11) + (60 * d2 + 10600) ≤ 60 * d + 10600; omega, pay_in hts (lw_meth hq5), List.mem_cons_self⟩, hts _ hq5, hts _ hq4, ⟨hnm2.1, hnm2.2.1⟩, fun sig h => ?_, hts _ hq1, hts _ hsm, hdecl s args hts hK.2.1, hsel s args hts hK.2.2, hts _ hq2⟩
    have h2 := hnm2.2.2
    rw [h] at h2
    exact (Option.some.inj h2).symm
  exact run_X (vx_runU (As := As) (rest := rest) ⟨hx, hb, hml, hown, hts⟩ hM cw ⟨calling_blind, cell_of_obj (p := p) hK hW hc hsh, fun U hU hWm => pre_of hK hW hS U hU hWm⟩ rfl hn (by rw [← hml]; exact hl.1) rfl (by show 2 * 0 + _ ≤ 8; omega) dg ⟨by subst hR; show _ ≤ gCAP - sN st0; omega, by subst hR; show _ ≤ gCAPS - sS st0; omega⟩) hE hl hS kn kx
theorem X_callF (C : Cx θ κ y cc nL ret hh d) {x2 y2 : MethodName} {by2 : ByteArray} {maxL : Nat} {idx cnt d2 : Nat} {As rest : List Value} {ret2 : Option FieldType} {n : Nat} {ci a : Nat} {q : vw_C} (hc : gcl[ci]? = some q) (hsh : sh st a = ci + 1) (hF : (q.1, x2, y2) ∈ gIF) (hq1 : Cond.methodLink y.cls idx x2 ∈ lw_all) (hq3 : Cond.selects q.1 x2 y2 ∈ lw_all) (hq2 : Cond.instanceMethod y2 ∈ lw_all) (hq4 : Cond.initialized y2.cls ∈ lw_all) (hq5 : Cond.code y2 by2 maxL ret2 ∈ lw_all) (hnm2 : x2.cls ≠ "java/lang/invoke/MethodHandle" ∧ x2.cls ≠ "java/lang/invoke/VarHandle" ∧ (parseMethodDescriptor x2.desc).map (fun d => d.parameters.length) = some n) (hn : As.length = n) (dg : decode cc pc = .ok (.invokeinterface idx cnt, 5)) (hM : Ct θ κ.2.1 y2 (ws_ y2 by2 maxL ret2) d2 (.ref (ad θ a) :: As) st Ψ) (hd : d2 < d) (hmL : maxL ≤ 40) (hrest : (rest.map fun v => v.category).sum ≤ 8) (kn : ∀ st2 v, Ext st st2 → Ψ.1 st2 v → X θ κ Φ st2 (pc + 5) lo (v.toList ++ rest)) (kx : ∀ st2 E q, Ext st st2 → Ψ.2 st2 E q → XT θ κ Φ st2 pc lo E q) : X θ κ Φ st pc lo (As.reverse ++ .ref (ad θ a) :: rest) := by
  obtain ⟨p, l, e, R, s, m, args, below, meth, c, st0⟩ := κ
  obtain ⟨hx, hb, hml, hown, hts, hr, hlk, htb, hK, hW0, hR, hst, hnm⟩ := C
  intro H locs ls cells slots hW hE hl hS
  have hb0 : thb θ ≤ s.heap.size := by have := hW0.1; omega
  refine W_narrow hb0 (fun f1 f2 => ?_)
  have g1 := hW0.1
  have g2 := hW.1
  have g3 := hW.2.2.1
  have g4 := hW0.2.1
  have g5 := hW.2.1
  have g6 := hW.2.2.2.1
  have hG : GoodIn lw_all (va_wsF y.cls idx q.1 x2 y2 (ws_ y2 by2 maxL ret2)) := by
    refine lw_app ?_ (lw_meth hq5)
    intro w hw
    simp only [List.mem_cons, List.not_mem_nil, or_false] at hw
    rcases hw with e | e | e | e
    · rw [e]; exact hq1
    · rw [e]; exact hq3
    · rw [e]; exact hq2
    · rw [e]; exact hq4
  exact run_X5 (vx_runF (As := As) (rest := rest) (hK.1.1 ci _ hc).2 ⟨hx, hb, hml, hown, hts⟩ hM (va_cwF n hts hG rfl rfl rfl (hK.2.1.2.2.1 _ hF) hnm2 ⟨by subst hR; show d2 + 20 + 1 ≤ d + 20; omega, by subst hR; show 8 + (maxL + 11) + (60 * d2 + 10600) ≤ 60 * d + 10600; omega⟩) ⟨calling_blind, cell_of_obj (p := p) hK hW hc hsh, fun U hU hWm => pre_of hK hW hS U hU hWm⟩ rfl hn (by rw [← hml]; exact hl.1) rfl (by show 2 * 0 + _ ≤ 8; omega) dg ⟨by subst hR; show _ ≤ gCAP - sN st0; omega, by subst hR; show _ ≤ gCAPS - sS st0; omega⟩) hE hl hS kn kx
/-! nulls -/
theorem X_alenN (C : Cx θ κ y cc nL ret hh d) (dg : decode cc pc = .ok (.arraylength, 1)) (hrest : (stk.map fun v => v.category).sum ≤ 8) (hN : sN st + 1 ≤ gCAP) (hSl : sS st + 8 ≤ gCAPS) (k : ∀ a b q, a ≤ 1 → b ≤ 8 → XT θ κ Φ (jk st a b) pc lo "java/lang/NullPointerException" q) : X θ κ Φ st pc lo (.null :: stk) := by
  have kk := noteN_of C hrest hN hSl k
  obtain ⟨p, l, e, R, s, m, args, below, meth, c, st0⟩ := κ
  obtain ⟨hx, hb, -⟩ := C
  intro H locs ls cells slots hW hE hl hS
  exact vx_arraylengthN hx hb dg (kk H locs ls cells slots hW hE hl hS)
theorem X_laldN (C : Cx θ κ y cc nL ret hh d) {i : Int32} (dg : decode cc pc = .ok (.laload, 1)) (hrest : (stk.map fun v => v.category).sum ≤ 8) (hN : sN st + 1 ≤ gCAP) (hSl : sS st + 8 ≤ gCAPS) (k : ∀ a b q, a ≤ 1 → b ≤ 8 → XT θ κ Φ (jk st a b) pc lo "java/lang/NullPointerException" q) : X θ κ Φ st pc lo (.int i :: .null :: stk) := by
  have kk := noteN_of C hrest hN hSl k
  obtain ⟨p, l, e, R, s, m, args, below, meth, c, st0⟩ := κ
  obtain ⟨hx, hb, -⟩ := C
  intro H locs ls cells slots hW hE hl hS
  exact vx_laloadN hx hb dg (kk H locs ls cells slots hW hE hl hS)
theorem X_lastN (C : Cx θ κ y cc nL ret hh d) {i : Int32} {x : Int64} (dg : decode cc pc = .ok (.lastore, 1)) (hrest : (stk.map fun v => v.category).sum ≤ 8) (hN : sN st + 1 ≤ gCAP) (hSl : sS st + 8 ≤ gCAPS) (k : ∀ a b q, a ≤ 1 → b ≤ 8 → XT θ κ Φ (jk st a b) pc lo "java/lang/NullPointerException" q) : X θ κ Φ st pc lo (.long x :: .int i :: .null :: stk) := by
  have kk := noteN_of C hrest hN hSl k
  obtain ⟨p, l, e, R, s, m, args, below, meth, c, st0⟩ := κ
  obtain ⟨hx, hb, -⟩ := C
  intro H locs ls cells slots hW hE hl hS
  exact vx_lastoreN hx hb dg (kk H locs ls cells slots hW hE hl hS)
/-! places outside -/
theorem note_out (C : Cx θ κ y cc nL ret hh d) {i : Int32} {n : Nat} (hn31 : n < 2 ^ 31) (hrest : (stk.map fun v => v.category).sum ≤ 8) (hN : sN st + 3 ≤ gCAP) (hSl : sS st + 222 ≤ gCAPS) (k : ∀ a b q, a ≤ 3 → b ≤ 222 → XT θ κ Φ (jk st a b) pc lo "java/lang/ArrayIndexOutOfBoundsException" q) :
    ∀ tx : String, tx = (toString "Index " ++ toString i ++ toString " out of bounds for length " ++ toString n : String) → XNote θ κ Φ st pc lo stk "java/lang/ArrayIndexOutOfBoundsException" tx := by
  intro tx htx
  subst htx
  exact note_of C (names := nmI) (nb := 212) (by decide +kernel) (by decide +kernel) (by decide +kernel) (by decide +kernel) (inTbl_of wI_in) wI_ok (index_text_modelled i n) (index_text_bytes i hn31) (by decide) (by decide) hrest hN hSl k
theorem X_laldO (C : Cx θ κ y cc nL ret hh d) {a : Nat} {i : Int32} (hsh : sh st a = 102) (hout : ¬ vp_in i (ln st a)) (hn31 : ln st a < 2 ^ 31) (dg : decode cc pc = .ok (.laload, 1)) (hrest : (stk.map fun v => v.category).sum ≤ 8) (hN : sN st + 3 ≤ gCAP) (hSl : sS st + 222 ≤ gCAPS) (k : ∀ a b q, a ≤ 3 → b ≤ 222 → XT θ κ Φ (jk st a b) pc lo "java/lang/ArrayIndexOutOfBoundsException" q) (ha : a < gBIG := by assumption) : X θ κ Φ st pc lo (.int i :: .ref (ad θ a) :: stk) := by
  have kk := note_out (stk := stk) (i := i) C hn31 hrest hN hSl k
  obtain ⟨p, l, e, R, s, m, args, below, meth, c, st0⟩ := κ
  obtain ⟨hx, hb, hml, hown, hts, hr, hlk, htb, hK, hW0, hR, hst, hnm⟩ := C
  intro H locs ls cells slots hW hE hl hS T hT X
  obtain ⟨t, st9, q⟩ := kk _ rfl H locs ls cells slots hW hE hl hS T hT X
  refine ⟨t, ?_, q⟩
  have h1 := X.laloadOut hx (by rw [hT]; exact cell_arr hW ha hsh (by omega)) ((hK.1.2 1 _ (gtys_at 1 rfl)).1 _ _) (j := i) (by rw [arrV_size]; exact Classical.byContradiction hout) (g := F0 m pc ls (.int i :: .ref (ad θ a) :: stk)) rfl (rest := stk) rfl (by rw [hb]; exact dg) t
  simp only [arrV_size] at h1
  exact h1 st9
theorem X_saldO (C : Cx θ κ y cc nL ret hh d) {a : Nat} {i : Int32} (hsh : sh st a = 106) (hout : ¬ vp_in i (ln st a)) (hn31 : ln st a < 2 ^ 31) (dg : decode cc pc = .ok (.saload, 1)) (hrest : (stk.map fun v => v.category).sum ≤ 8) (hN : sN st + 3 ≤ gCAP) (hSl : sS st + 222 ≤ gCAPS) (k : ∀ a b q, a ≤ 3 → b ≤ 222 → XT θ κ Φ (jk st a b) pc lo "java/lang/ArrayIndexOutOfBoundsException" q) (ha : a < gBIG := by assumption) : X θ κ Φ st pc lo (.int i :: .ref (ad θ a) :: stk) := by
  have kk := note_out (stk := stk) (i := i) C hn31 hrest hN hSl k
  obtain ⟨p, l, e, R, s, m, args, below, meth, c, st0⟩ := κ
  obtain ⟨hx, hb, hml, hown, hts, hr, hlk, htb, hK, hW0, hR, hst, hnm⟩ := C
  intro H locs ls cells slots hW hE hl hS T hT X
  obtain ⟨t, st9, q⟩ := kk _ rfl H locs ls cells slots hW hE hl hS T hT X
  refine ⟨t, ?_, q⟩
  have h1 := X.saloadOut hx (by rw [hT]; exact cell_arr hW ha hsh (by omega)) ((hK.1.2 5 _ (gtys_at 5 rfl)).1 _ _) (j := i) (by rw [arrV_size]; exact Classical.byContradiction hout) (g := F0 m pc ls (.int i :: .ref (ad θ a) :: stk)) rfl (rest := stk) rfl (by rw [hb]; exact dg) t
  simp only [arrV_size] at h1
  exact h1 st9
theorem X_lastO (C : Cx θ κ y cc nL ret hh d) {a : Nat} {i : Int32} {x : Int64} (hsh : sh st a = 102) (hout : ¬ vp_in i (ln st a)) (hn31 : ln st a < 2 ^ 31) (dg : decode cc pc = .ok (.lastore, 1)) (hrest : (stk.map fun v => v.category).sum ≤ 8) (hN : sN st + 3 ≤ gCAP) (hSl : sS st + 222 ≤ gCAPS) (k : ∀ a b q, a ≤ 3 → b ≤ 222 → XT θ κ Φ (jk st a b) pc lo "java/lang/ArrayIndexOutOfBoundsException" q) (ha : a < gBIG := by assumption) : X θ κ Φ st pc lo (.long x :: .int i :: .ref (ad θ a) :: stk) := by
  have kk := note_out (stk := stk) (i := i) C hn31 hrest hN hSl k
  obtain ⟨p, l, e, R, s, m, args, below, meth, c, st0⟩ := κ
  obtain ⟨hx, hb, hml, hown, hts, hr, hlk, htb, hK, hW0, hR, hst, hnm⟩ := C
  intro H locs ls cells slots hW hE hl hS T hT X
  obtain ⟨t, st9, q⟩ := kk _ rfl H locs ls cells slots hW hE hl hS T hT X
  refine ⟨t, ?_, q⟩
  have h1 := X.lastoreOut hx (by rw [hT]; exact cell_arr hW ha hsh (by omega)) ((hK.1.2 1 _ (gtys_at 1 rfl)).1 _ _) (j := i) (by rw [arrV_size]; exact Classical.byContradiction hout) (g := F0 m pc ls (.long x :: .int i :: .ref (ad θ a) :: stk)) rfl (rest := stk) rfl (by rw [hb]; exact dg) t
  simp only [arrV_size] at h1
  exact h1 st9
theorem X_sastO (C : Cx θ κ y cc nL ret hh d) {a : Nat} {i x : Int32} (hsh : sh st a = 106) (hout : ¬ vp_in i (ln st a)) (hn31 : ln st a < 2 ^ 31) (dg : decode cc pc = .ok (.sastore, 1)) (hrest : (stk.map fun v => v.category).sum ≤ 8) (hN : sN st + 3 ≤ gCAP) (hSl : sS st + 222 ≤ gCAPS) (k : ∀ a b q, a ≤ 3 → b ≤ 222 → XT θ κ Φ (jk st a b) pc lo "java/lang/ArrayIndexOutOfBoundsException" q) (ha : a < gBIG := by assumption) : X θ κ Φ st pc lo (.int x :: .int i :: .ref (ad θ a) :: stk) := by
  have kk := note_out (stk := stk) (i := i) C hn31 hrest hN hSl k
  obtain ⟨p, l, e, R, s, m, args, below, meth, c, st0⟩ := κ
  obtain ⟨hx, hb, hml, hown, hts, hr, hlk, htb, hK, hW0, hR, hst, hnm⟩ := C
  intro H locs ls cells slots hW hE hl hS T hT X
  obtain ⟨t, st9, q⟩ := kk _ rfl H locs ls cells slots hW hE hl hS T hT X
  refine ⟨t, ?_, q⟩
  have h1 := X.sastoreOut hx (by rw [hT]; exact cell_arr hW ha hsh (by omega)) ((hK.1.2 5 _ (gtys_at 5 rfl)).1 _ _) (j := i) (by rw [arrV_size]; exact Classical.byContradiction hout) (g := F0 m pc ls (.int x :: .int i :: .ref (ad θ a) :: stk)) rfl (rest := stk) rfl (by rw [hb]; exact dg) t
  simp only [arrV_size] at h1
  exact h1 st9
end MORE3
