/-! MY OWN LAYER, 4: new cells, calls, throws, a method's entry -/
theorem gty_nf : ∀ ci k, gty ci k ≠ .float ∧ gty ci k ≠ .double := by
  intro ci k
  unfold gty
  split <;> simp only [tyX0, tyX1, tyX2, tyX3, tyX4, tyX5, tyX6, tyX7, tyX9, tyJ6, tyJ11] <;> first | (split <;> simp; done) | (simp; done)
theorem acomp_nf (t : Nat) : acomp t ≠ .float ∧ acomp t ≠ .double := by
  unfold acomp
  split <;> exact ⟨nofun, nofun⟩
section CALLS
variable {θ : Th} {κ : Kx} {Φ Ψ : Ph} {y : MethodName} {cc : ByteArray} {nL : Nat} {ret : Option FieldType} {hh : List (Nat × Nat × Nat × Nat)} {d : Nat} {st : St} {pc : Nat} {lo : List (Nat × Value)} {stk : List Value}
theorem Cx_l (C : Cx θ κ y cc nL ret hh d) : κ.2.1.stackTraces = false := by
  obtain ⟨p, l, e, R, s, m, args, below, meth, c, st0⟩ := κ
  obtain ⟨hx, hb, hml, hown, hts, hr, hlk, htb, hK, hW0, hR, hst, hnm⟩ := C
  exact hst
theorem X_new (C : Cx θ κ y cc nL ret hh d) {ci idx n : Nat} {q : vw_C} (hc : gcl[ci]? = some q) (h1 : Cond.classLink y.cls idx q.1 ∈ lw_all) (h2 : Cond.instantiable q.1 n ∈ lw_all) (h3 : Cond.initialized q.1 ∈ lw_all) (hN : sN st + 1 ≤ gCAP) (hSl : sS st + n ≤ gCAPS) (dg : decode cc pc = .ok (.new idx, 3)) (k : Ext st (mk st (ci + 1) n) → X θ κ Φ (mk st (ci + 1) n) (pc + 3) lo (.ref (ad θ (sN st)) :: stk)) : X θ κ Φ st pc lo stk := by
  obtain ⟨p, l, e, R, s, m, args, below, meth, c, st0⟩ := κ
  obtain ⟨hx, hb, hml, hown, hts, hr, hlk, htb, hK, hW0, hR, hst, hnm⟩ := C
  intro H locs ls cells slots hW hE hl hS
  have hb0 : thb θ ≤ s.heap.size := by have := hW0.1; omega
  refine W_narrow hb0 (fun f1 f2 => ?_)
  have g1 := hW0.1
  have g2 := hW.1
  have g3 := hW.2.2.1
  have g4 := hW0.2.1
  have g5 := hW.2.1
  have g6 := hW.2.2.2.1
  have hlt := gcl_lt hc
  have hNb : sN st < gBIG := by unfold gBIG; unfold gCAP at g3; omega
  refine W.newc hx hb hown (hts _ h1) (hts _ h2) (hts _ h3) rfl dg (by subst hR; show _ ≤ gCAP - sN st0; omega) (by subst hR; show _ ≤ gCAPS - sS st0; omega) fun cC kC e1 e2 e3 e4 => ?_
  have hKn := hK.1.1 ci _ hc
  have hcC : cC = (thD θ).1 ci := Option.some.inj (e1.symm.trans hKn.2.1)
  subst hcC
  have hcell : (H.push (blank ((thD θ).1 ci) kC))[H.size]? = some (blank ((thD θ).1 ci) kC) := by simp
  have hob := u_born (gty ci) hts (gin hc) hKn e2 hcell (gtyok hc)
  have ho : ∀ q : Nat, q < H.size → (H.push (blank ((thD θ).1 ci) kC))[q]? = H[q]? := fun q hq => by
    rw [Array.getElem?_push, if_neg (Nat.ne_of_lt hq)]
  have hcs : cellIs θ (mk st (ci + 1) n) (sN st) (blank ((thD θ).1 ci) kC) := by
    have hsh : sh (mk st (ci + 1) n) (sN st) = ci + 1 := by simp [mk, sh]
    obtain ⟨cell, b1, b2, b3, b4⟩ := hob
    cases hcell.symm.trans b1
    refine ⟨fun _ => ⟨q, by rw [hsh]; simpa using hc, by rw [hsh]; simp only [Nat.add_sub_cancel]; exact b2, b3, fun j hj => ?_⟩, fun h => by rw [hsh] at h; omega⟩
    rw [hsh]
    simp only [Nat.add_sub_cancel]
    rw [b4 j hj, sv_mkN _ (gty_nf ci j).1 (gty_nf ci j).2]
  have hW2 := Wd_push hW hN hSl (by simp) ho hcell (by simp [blank, e4]) hcs
  have e5 : H.size = ad θ (sN st) := by rw [ad_lo hNb]; omega
  rw [e5]
  exact k (Ext_mk hW) _ locs ls _ _ hW2 (Ext_tr hE (Ext_mk hW)) hl ⟨by simp; exact Nat.le_succ_of_le hS.1, fun q h8 h9 => (ho q (Nat.lt_of_lt_of_le h8 hS.1)).trans (hS.2.1 q h8 h9), hS.2.2⟩
theorem X_newarr0 (C : Cx θ κ y cc nL ret hh d) {t : Nat} (t0 : Nat) (ht0 : gcodes[t0]? = some t) (h100 : 100 ≤ t) {H : Heap} {n : Nat} {cA : ClassId} (hcA : cA = thA θ t) {dv : Value} (hdv : dv = defaultValue (acomp t)) (hW : Wd θ st H) (hN : sN st + 1 ≤ gCAP) (hSl : sS st + n ≤ gCAPS) : Wd θ (mk st t n) (H.push { cls := cA, slots := Array.replicate n dv, vm := .none }) ∧ H.size = ad θ (sN st) ∧ (∀ q : Nat, q < H.size → (H.push { cls := cA, slots := Array.replicate n dv, vm := .none } : Heap)[q]? = H[q]?) := by
  have g3 := hW.2.2.1
  have g2 := hW.1
  have hNb : sN st < gBIG := by unfold gBIG; unfold gCAP at g3; omega
  have ho : ∀ q : Nat, q < H.size → (H.push { cls := cA, slots := Array.replicate n dv, vm := .none } : Heap)[q]? = H[q]? := fun q hq => by
    rw [Array.getElem?_push, if_neg (Nat.ne_of_lt hq)]
  refine ⟨Wd_push hW hN hSl (by simp) ho (c' := { cls := cA, slots := Array.replicate n dv, vm := .none }) (by simp) (by simp) ⟨fun h => ?_, fun _ => ?_⟩, by rw [ad_lo hNb]; omega, ho⟩
  · have hsh : sh (mk st t n) (sN st) = t := by simp [mk, sh]
    rw [hsh] at h; omega
  · have hsh : sh (mk st t n) (sN st) = t := by simp [mk, sh]
    have hln : ln (mk st t n) (sN st) = n := by simp [mk, ln]
    rw [hsh, hln, arrV_new, hcA, hdv]
    congr 1
    funext j
    rw [sv_mkN _ (acomp_nf t).1 (acomp_nf t).2]
theorem X_newarray (C : Cx θ κ y cc nL ret hh d) {t : Nat} (t0 : Nat) (ht0 : gcodes[t0]? = some t) (h100 : 100 ≤ t) {aty : ArrayType} (haty : newarray.typeOf aty = acomp t) (harr : Cond.arrayClass (newarray.typeOf aty) ∈ lw_all) (hpr : ∀ U cA, va_RA U cA (acomp t) → U.vm.findClass ("[" ++ (acomp t).toString) = some cA) {i : Int32} {n : Nat} (hi : ¬ i < 0) (hn : i.toNatClampNeg = n) (hby : n * 8 ≤ 536870912) (hcb : componentBytes (newarray.typeOf aty) ≤ 8) (hN : sN st + 1 ≤ gCAP) (hSl : sS st + n ≤ gCAPS) (dg : decode cc pc = .ok (.newarray aty, 2)) (k : Ext st (mk st t n) → X θ κ Φ (mk st t n) (pc + 2) lo (.ref (ad θ (sN st)) :: stk)) : X θ κ Φ st pc lo (.int i :: stk) := by
  have C0 := C
  obtain ⟨p, l, e, R, s, m, args, below, meth, c, st0⟩ := κ
  obtain ⟨hx, hb, hml, hown, hts, hr, hlk, htb, hK, hW0, hR, hst, hnm⟩ := C
  intro H locs ls cells slots hW hE hl hS
  have hb0 : thb θ ≤ s.heap.size := by have := hW0.1; omega
  refine W_narrow hb0 (fun f1 f2 => ?_)
  have g1 := hW0.1
  have g2 := hW.1
  have g3 := hW.2.2.1
  have g4 := hW0.2.1
  have g5 := hW.2.1
  have g6 := hW.2.2.2.1
  subst hn
  refine W.newa hx hb (hts _ harr) rfl dg rfl hi (Nat.le_trans (Nat.mul_le_mul_left _ hcb) hby) (by subst hR; show _ ≤ gCAP - sN st0; omega) (by subst hR; show _ ≤ gCAPS - sS st0; omega) fun cA kA comp e1 e2 e3 => ?_
  have hcA : cA = thA θ t := by
    have h9 := hpr s _ (hK.1.2 t0 _ (gtys_at t0 ht0)).2
    rw [haty] at e1
    exact Option.some.inj (e1.symm.trans h9)
  obtain ⟨hW2, e5, ho⟩ := X_newarr0 C0 t0 ht0 h100 hcA (show defaultValue (newarray.typeOf aty) = defaultValue (acomp t) by rw [haty]) hW hN hSl
  rw [e5]
  exact k (Ext_mk hW) _ locs ls _ _ hW2 (Ext_tr hE (Ext_mk hW)) hl ⟨by simp; exact Nat.le_succ_of_le hS.1, fun q h8 h9 => (ho q (Nat.lt_of_lt_of_le h8 hS.1)).trans (hS.2.1 q h8 h9), hS.2.2⟩
theorem X_anewarray (C : Cx θ κ y cc nL ret hh d) {t : Nat} (t0 : Nat) (ht0 : gcodes[t0]? = some t) (h100 : 100 ≤ t) {Cn : String} (hcn : acomp t = .object Cn) {idx : Nat} (hlink : Cond.classLink y.cls idx Cn ∈ lw_all) (hao : Cn ∈ gAO) {i : Int32} {n : Nat} (hi : ¬ i < 0) (hn : i.toNatClampNeg = n) (hby : n * 8 ≤ 536870912) (hN : sN st + 1 ≤ gCAP) (hSl : sS st + n ≤ gCAPS) (dg : decode cc pc = .ok (.anewarray idx, 3)) (k : Ext st (mk st t n) → X θ κ Φ (mk st t n) (pc + 3) lo (.ref (ad θ (sN st)) :: stk)) : X θ κ Φ st pc lo (.int i :: stk) := by
  have C0 := C
  obtain ⟨p, l, e, R, s, m, args, below, meth, c, st0⟩ := κ
  obtain ⟨hx, hb, hml, hown, hts, hr, hlk, htb, hK, hW0, hR, hst, hnm⟩ := C
  intro H locs ls cells slots hW hE hl hS
  have hb0 : thb θ ≤ s.heap.size := by have := hW0.1; omega
  refine W_narrow hb0 (fun f1 f2 => ?_)
  have g1 := hW0.1
  have g2 := hW.1
  have g3 := hW.2.2.1
  have g4 := hW0.2.1
  have g5 := hW.2.1
  have g6 := hW.2.2.2.1
  subst hn
  refine W.anew hx hb hown (hts _ hlink) (hK.2.1.2.1 _ hao).use rfl dg rfl hi (by omega) (by subst hR; show _ ≤ gCAP - sN st0; omega) (by subst hR; show _ ≤ gCAPS - sS st0; omega) fun cA kA comp e1 e2 e3 e4 => ?_
  have hcA : cA = thA θ t := by
    have h9 := (hK.1.2 t0 _ (gtys_at t0 ht0)).2
    rw [hcn] at h9
    obtain ⟨_, _, -, -, -, h8⟩ := h9
    exact Option.some.inj (e1.symm.trans h8)
  obtain ⟨hW2, e5, ho⟩ := X_newarr0 C0 t0 ht0 h100 hcA (show Value.null = defaultValue (acomp t) by rw [hcn]; rfl) hW hN hSl
  rw [e5]
  exact k (Ext_mk hW) _ locs ls _ _ hW2 (Ext_tr hE (Ext_mk hW)) hl ⟨by simp; exact Nat.le_succ_of_le hS.1, fun q h8 h9 => (ho q (Nat.lt_of_lt_of_le h8 hS.1)).trans (hS.2.1 q h8 h9), hS.2.2⟩
/-! calls -/
theorem calling_blind {As : List Value} {st : St} : FrameBlind (va_Pc As (fun U => Wd θ st U.heap ∧ KW θ U U.heap)) := by
  intro a U g mk h
  obtain ⟨h1, h2, h3⟩ := h
  exact ⟨h1, h2, KW_same (u := U) (U := U.calling g mk a) rfl h3⟩
theorem pre_of {s : State} {H : Heap} {locs : List Loc} {As : List Value} (hK : KW θ s s.heap) (hW : Wd θ st H) (hS : va_S (Af θ) s.heap H locs) (U : State) (hU : U.heap = H) (hWm : s.WarmedH U.vm) : va_Pc As (fun U => Wd θ st U.heap ∧ KW θ U U.heap) As.toArray U :=
  ⟨rfl, by rw [hU]; exact hW, by rw [hU]; exact KW_warm hWm (fun q h1 h2 => hS.2.1 q h1 h2) hK⟩
theorem run_X {p : Program} {l : Launch} {e : Env} {R : Room} {s : State} {m : MethodId} {args : Array Value} {below : List Frame} {meth : Method} {c : Code} {st0 : St} {H : Heap} {locs : List Loc} {ls : Array Slot} {cells slots mc ms : Nat} {rest : List Value} {a : Array Value}
    (hr : vx_Run p l e R s m args below meth c H locs cells slots mc ms (F0 m pc ls stk) rest (Qn θ st Ψ a) (Qe θ st Ψ) (Af θ)) (hE : Ext st0 st) (hl : lv_has ls c.maxLocals lo) (hS : va_S (Af θ) s.heap H locs)
    (kn : ∀ st2 v, Ext st st2 → Ψ.1 st2 v → X θ (p, l, e, R, s, m, args, below, meth, c, st0) Φ st2 (pc + 3) lo (v.toList ++ rest)) (kx : ∀ st2 E q, Ext st st2 → Ψ.2 st2 E q → XT θ (p, l, e, R, s, m, args, below, meth, c, st0) Φ st2 pc lo E q) :
    W p l e R s m args below meth c H locs cells slots (vx_MQ below (Qn θ st0 Φ) (Qe θ st0 Φ) args s (gCAP - sN st0) (gCAPS - sS st0) (Af θ)) (F0 m pc ls stk) := by
  intro T hT Xs
  rcases hr T hT Xs with ⟨v, st₀, t, T', L, h0, X', hL, e1, e2, ⟨⟨st2, v2, hv, hp, hw, he⟩, hF⟩, stp⟩ | ⟨q, st₀, t, T', L, E, ce, h0, X', hL, e1, e2, ⟨⟨st2, hp, hw, he⟩, hF⟩, hce, hcv, hcl, stp⟩
  · cases hv
    obtain ⟨k1, k2, k3⟩ := vx_keep h0 e1 hS (fun q _ h => h) (fun q h => h) hL hF
    obtain ⟨t2, a1, b1⟩ := kn st2 v he hp T'.heap (locs ++ L) ls _ _ (by rw [e1]; exact hw) (Ext_tr hE he) hl k3 T' rfl X'
    exact ⟨t2, stp t2 a1, b1⟩
  · obtain ⟨k1, k2, k3⟩ := vx_keep h0 e1 hS (fun q _ h => h) (fun q h => h) hL hF
    obtain ⟨t2, a1, b1⟩ := kx st2 E q he hp T'.heap (locs ++ L) ls _ _ rest ce (by rw [e1]; exact hw) (Ext_tr hE he) hl k3 (by rw [e1]; exact hce) hcv hcl T' rfl X'
    exact ⟨t2, stp.trans a1, b1⟩
theorem X_callV (C : Cx θ κ y cc nL ret hh d) {y2 : MethodName} {by2 : ByteArray} {maxL : Nat} {idx d2 : Nat} {As rest : List Value} {ret2 : Option FieldType} {n : Nat} {ci a : Nat} {q : vw_C} (hc : gcl[ci]? = some q) (hsh : sh st a = ci + 1) (hq1 : Cond.methodLink y.cls idx y2 ∈ lw_all) (hq2 : Cond.instanceMethod y2 ∈ lw_all) (hq3 : Cond.selects q.1 y2 y2 ∈ lw_all) (hq4 : Cond.initialized q.1 ∈ lw_all) (hq5 : Cond.code y2 by2 maxL ret2 ∈ lw_all) (hnm2 : y2.cls = q.1 ∧ y2.cls ≠ "java/lang/invoke/MethodHandle" ∧ y2.cls ≠ "java/lang/invoke/VarHandle" ∧ (parseMethodDescriptor y2.desc).map (fun d => d.parameters.length) = some n) (hn : As.length = n) (dg : decode cc pc = .ok (.invokevirtual idx, 3)) (hM : Ct θ κ.2.1 y2 (ws_ y2 by2 maxL ret2) d2 (.ref (ad θ a) :: As) st Ψ) (hd : d2 < d) (hmL : maxL ≤ 40) (hrest : (rest.map fun v => v.category).sum ≤ 8) (kn : ∀ st2 v, Ext st st2 → Ψ.1 st2 v → X θ κ Φ st2 (pc + 3) lo (v.toList ++ rest)) (kx : ∀ st2 E q, Ext st st2 → Ψ.2 st2 E q → XT θ κ Φ st2 pc lo E q) : X θ κ Φ st pc lo (As.reverse ++ .ref (ad θ a) :: rest) := by
  obtain ⟨p, l, e, R, s, m, args, below, meth, c, st0⟩ := κ
  obtain ⟨hx, hb, hml, hown, hts, hr, hlk, htb, hK, hW0, hR, hst, hnm⟩ := C
  intro H locs ls cells slots hW hE hl hS
  have hb0 : thb θ ≤ s.heap.size := by have := hW0.1; omega
  refine W_narrow hb0 (fun f1 f2 => ?_)
  have g1 := hW0.1
  have g2 := hW.1
  have g3 := hW.2.2.1
  have g4 := hW0.2.1
  have g5 := hW.2.1
  have g6 := hW.2.2.2.1
  obtain ⟨cell, q1, q2, q3, q4⟩ := cell_objW hW hc hsh
  have hrc : ∃ cellB : Cell, H[ad θ a]? = some cellB ∧ cellB.vm.isStatics = false ∧ s.vm.findClass q.1 = some cellB.cls := ⟨cell, q1, q3.2, by rw [q2]; exact (hK.1.1 ci _ hc).2.1⟩
  exact run_X (vx_runV (As := As) (rest := rest) ⟨hx, hb, hml, hown, hts⟩ hM (cwV n hts (lw_V hq1 hq2 hq3 hq4 hq5) rfl rfl rfl hnm2 ⟨by subst hR; show d2 + 20 + 1 ≤ d + 20; omega, by subst hR; show 8 + (maxL + 11) + (60 * d2 + 10600) ≤ 60 * d + 10600; omega⟩) ⟨calling_blind, hrc, fun U hU hWm => pre_of hK hW hS U hU hWm⟩ rfl hn (by rw [← hml]; exact hl.1) rfl (by show 2 * 0 + _ ≤ 8; omega) dg ⟨by subst hR; show _ ≤ gCAP - sN st0; omega, by subst hR; show _ ≤ gCAPS - sS st0; omega⟩) hE hl hS kn kx
theorem X_callVX (C : Cx θ κ y cc nL ret hh d) {y2 : MethodName} {by2 : ByteArray} {maxL : Nat} {idx d2 : Nat} {As rest : List Value} {ret2 : Option FieldType} {hh2 : List (Nat × Nat × Nat × Nat)} {n : Nat} {ci a : Nat} {q : vw_C} (hc : gcl[ci]? = some q) (hsh : sh st a = ci + 1) (hq1 : Cond.methodLink y.cls idx y2 ∈ lw_all) (hq2 : Cond.instanceMethod y2 ∈ lw_all) (hq3 : Cond.selects q.1 y2 y2 ∈ lw_all) (hq4 : Cond.initialized q.1 ∈ lw_all) (hq5 : Cond.codeWith y2 by2 maxL ret2 hh2 ∈ lw_all) (hnm2 : y2.cls = q.1 ∧ y2.cls ≠ "java/lang/invoke/MethodHandle" ∧ y2.cls ≠ "java/lang/invoke/VarHandle" ∧ (parseMethodDescriptor y2.desc).map (fun d => d.parameters.length) = some n) (hn : As.length = n) (dg : decode cc pc = .ok (.invokevirtual idx, 3)) (hM : Ct θ κ.2.1 y2 (wsW_ y2 by2 maxL ret2 hh2) d2 (.ref (ad θ a) :: As) st Ψ) (hd : d2 < d) (hmL : maxL ≤ 40) (hrest : (rest.map fun v => v.category).sum ≤ 8) (kn : ∀ st2 v, Ext st st2 → Ψ.1 st2 v → X θ κ Φ st2 (pc + 3) lo (v.toList ++ rest)) (kx : ∀ st2 E q, Ext st st2 → Ψ.2 st2 E q → XT θ κ Φ st2 pc lo E q) : X θ κ Φ st pc lo (As.reverse ++ .ref (ad θ a) :: rest) := by
  obtain ⟨p, l, e, R, s, m, args, below, meth, c, st0⟩ := κ
  obtain ⟨hx, hb, hml, hown, hts, hr, hlk, htb, hK, hW0, hR, hst, hnm⟩ := C
  intro H locs ls cells slots hW hE hl hS
  have hb0 : thb θ ≤ s.heap.size := by have := hW0.1; omega
  refine W_narrow hb0 (fun f1 f2 => ?_)
  have g1 := hW0.1
  have g2 := hW.1
  have g3 := hW.2.2.1
  have g4 := hW0.2.1
  have g5 := hW.2.1
  have g6 := hW.2.2.2.1
  obtain ⟨cell, q1, q2, q3, q4⟩ := cell_objW hW hc hsh
  have hrc : ∃ cellB : Cell, H[ad θ a]? = some cellB ∧ cellB.vm.isStatics = false ∧ s.vm.findClass q.1 = some cellB.cls := ⟨cell, q1, q3.2, by rw [q2]; exact (hK.1.1 ci _ hc).2.1⟩
  exact run_X (vx_runVX (As := As) (rest := rest) ⟨hx, hb, hml, hown, hts⟩ hM (vx_cwVW n hts (lw_VW hq1 hq2 hq3 hq4 hq5) rfl rfl rfl hnm2 ⟨by subst hR; show d2 + 20 + 1 ≤ d + 20; omega, by subst hR; show 8 + (maxL + 11) + (60 * d2 + 10600) ≤ 60 * d + 10600; omega⟩) ⟨calling_blind, hrc, fun U hU hWm => pre_of hK hW hS U hU hWm⟩ rfl hn (by rw [← hml]; exact hl.1) rfl (by show 2 * 0 + _ ≤ 8; omega) dg ⟨by subst hR; show _ ≤ gCAP - sN st0; omega, by subst hR; show _ ≤ gCAPS - sS st0; omega⟩) hE hl hS kn kx
theorem X_callS (C : Cx θ κ y cc nL ret hh d) {y2 : MethodName} {by2 : ByteArray} {maxL : Nat} {idx d2 : Nat} {As rest : List Value} {ret2 : Option FieldType} {n : Nat} (hq1 : Cond.methodLink y.cls idx y2 ∈ lw_all) (hq2 : Cond.static y2 ∈ lw_all) (hq4 : Cond.initialized y2.cls ∈ lw_all) (hq5 : Cond.code y2 by2 maxL ret2 ∈ lw_all) (hnm2 : y2.cls ≠ "java/lang/invoke/MethodHandle" ∧ y2.cls ≠ "java/lang/invoke/VarHandle" ∧ (parseMethodDescriptor y2.desc).map (fun d => d.parameters.length) = some n) (hn : As.length = n) (dg : decode cc pc = .ok (.invokestatic idx, 3)) (hM : Ct θ κ.2.1 y2 (ws_ y2 by2 maxL ret2) d2 As st Ψ) (hd : d2 < d) (hmL : maxL ≤ 40) (hrest : (rest.map fun v => v.category).sum ≤ 8) (kn : ∀ st2 v, Ext st st2 → Ψ.1 st2 v → X θ κ Φ st2 (pc + 3) lo (v.toList ++ rest)) (kx : ∀ st2 E q, Ext st st2 → Ψ.2 st2 E q → XT θ κ Φ st2 pc lo E q) : X θ κ Φ st pc lo (As.reverse ++ rest) := by
  obtain ⟨p, l, e, R, s, m, args, below, meth, c, st0⟩ := κ
  obtain ⟨hx, hb, hml, hown, hts, hr, hlk, htb, hK, hW0, hR, hst, hnm⟩ := C
  intro H locs ls cells slots hW hE hl hS
  have hb0 : thb θ ≤ s.heap.size := by have := hW0.1; omega
  refine W_narrow hb0 (fun f1 f2 => ?_)
  have g1 := hW0.1
  have g2 := hW.1
  have g3 := hW.2.2.1
  have g4 := hW0.2.1
  have g5 := hW.2.1
  have g6 := hW.2.2.2.1
  exact run_X (vx_runS (As := As) (rest := rest) ⟨hx, hb, hml, hown, hts⟩ hM (va_cwS n hts (lw_S hq1 hq2 hq4 hq5) rfl rfl rfl hnm2 ⟨by subst hR; show d2 + 20 + 1 ≤ d + 20; omega, by subst hR; show 8 + (maxL + 11) + (60 * d2 + 10600) ≤ 60 * d + 10600; omega⟩) ⟨calling_blind, fun U hU hWm => pre_of hK hW hS U hU hWm⟩ rfl hn (by rw [← hml]; exact hl.1) rfl (by show 2 * 0 + _ ≤ 8; omega) dg ⟨by subst hR; show _ ≤ gCAP - sN st0; omega, by subst hR; show _ ≤ gCAPS - sS st0; omega⟩) hE hl hS kn kx
theorem X_callSN (C : Cx θ κ y cc nL ret hh d) {y2 : MethodName} {by2 : ByteArray} {maxL : Nat} {idx d2 : Nat} {As rest : List Value} {ret2 : Option FieldType} {n : Nat} {host : String} (hq1 : Cond.methodLinkNest y.cls idx y2 host ∈ lw_tbl) (hq2 : Cond.static y2 ∈ lw_all) (hq4 : Cond.initialized y2.cls ∈ lw_all) (hq5 : Cond.code y2 by2 maxL ret2 ∈ lw_all) (hnm2 : y2.cls ≠ "java/lang/invoke/MethodHandle" ∧ y2.cls ≠ "java/lang/invoke/VarHandle" ∧ (parseMethodDescriptor y2.desc).map (fun d => d.parameters.length) = some n) (hn : As.length = n) (dg : decode cc pc = .ok (.invokestatic idx, 3)) (hM : Ct θ κ.2.1 y2 (ws_ y2 by2 maxL ret2) d2 As st Ψ) (hd : d2 < d) (hmL : maxL ≤ 40) (hrest : (rest.map fun v => v.category).sum ≤ 8) (kn : ∀ st2 v, Ext st st2 → Ψ.1 st2 v → X θ κ Φ st2 (pc + 3) lo (v.toList ++ rest)) (kx : ∀ st2 E q, Ext st st2 → Ψ.2 st2 E q → XT θ κ Φ st2 pc lo E q) : X θ κ Φ st pc lo (As.reverse ++ rest) := by
  obtain ⟨p, l, e, R, s, m, args, below, meth, c, st0⟩ := κ
  obtain ⟨hx, hb, hml, hown, hts, hr, hlk, htb, hK, hW0, hR, hst, hnm⟩ := C
  intro H locs ls cells slots hW hE hl hS
  have hb0 : thb θ ≤ s.heap.size := by have := hW0.1; omega
  refine W_narrow hb0 (fun f1 f2 => ?_)
  have g1 := hW0.1
  have g2 := hW.1
  have g3 := hW.2.2.1
  have g4 := hW0.2.1
  have g5 := hW.2.1
  have g6 := hW.2.2.2.1
  exact run_X (vx_runSN (As := As) (rest := rest) ⟨hx, hb, hml, hown, hts⟩ hM (⟨va_cnB n hts (lw_meth hq5) rfl rfl rfl (hK.2.1.1 _ hq1 rfl) (hts _ hq4) hnm2 ⟨by subst hR; show d2 + 20 + 1 ≤ d + 20; omega, by subst hR; show 8 + (maxL + 11) + (60 * d2 + 10600) ≤ 60 * d + 10600; omega⟩, hts _ hq2, trivial⟩) ⟨calling_blind, fun U hU hWm => pre_of hK hW hS U hU hWm⟩ rfl hn (by rw [← hml]; exact hl.1) rfl (by show 2 * 0 + _ ≤ 8; omega) dg ⟨by subst hR; show _ ≤ gCAP - sN st0; omega, by subst hR; show _ ≤ gCAPS - sS st0; omega⟩) hE hl hS kn kx
theorem X_callI (C : Cx θ κ y cc nL ret hh d) {y2 : MethodName} {by2 : ByteArray} {maxL : Nat} {idx d2 : Nat} {As rest : List Value} {n : Nat} {a : Nat} (hq1 : Cond.methodLink y.cls idx y2 ∈ lw_all) (hq2 : Cond.instanceMethod y2 ∈ lw_all) (hq4 : Cond.initialized y2.cls ∈ lw_all) (hq5 : Cond.code y2 by2 maxL none ∈ lw_all) (hin2 : y2.name = "<init>") (hnm2 : y2.cls ≠ "java/lang/invoke/MethodHandle" ∧ y2.cls ≠ "java/lang/invoke/VarHandle" ∧ (parseMethodDescriptor y2.desc).map (fun d => d.parameters.length) = some n) (hn : As.length = n) (dg : decode cc pc = .ok (.invokespecial idx, 3)) (hM : Ct θ κ.2.1 y2 (ws_ y2 by2 maxL none) d2 (.ref (ad θ a) :: As) st Ψ) (hd : d2 < d) (hmL : maxL ≤ 40) (hrest : (rest.map fun v => v.category).sum ≤ 8) (kn : ∀ st2 v, Ext st st2 → Ψ.1 st2 v → X θ κ Φ st2 (pc + 3) lo (v.toList ++ rest)) (kx : ∀ st2 E q, Ext st st2 → Ψ.2 st2 E q → XT θ κ Φ st2 pc lo E q) : X θ κ Φ st pc lo (As.reverse ++ .ref (ad θ a) :: rest) := by
  obtain ⟨p, l, e, R, s, m, args, below, meth, c, st0⟩ := κ
  obtain ⟨hx, hb, hml, hown, hts, hr, hlk, htb, hK, hW0, hR, hst, hnm⟩ := C
  intro H locs ls cells slots hW hE hl hS
  have hb0 : thb θ ≤ s.heap.size := by have := hW0.1; omega
  refine W_narrow hb0 (fun f1 f2 => ?_)
  have g1 := hW0.1
  have g2 := hW.1
  have g3 := hW.2.2.1
  have g4 := hW0.2.1
  have g5 := hW.2.1
  have g6 := hW.2.2.2.1
  exact run_X (vx_runI (As := As) (rest := rest) ⟨hx, hb, hml, hown, hts⟩ hM (cwI n hts (lw_meth hq5) rfl rfl rfl (hts _ hq4) (hts _ hq1) (hts _ hq2) hin2 hnm2 ⟨by subst hR; show d2 + 20 + 1 ≤ d + 20; omega, by subst hR; show 8 + (maxL + 11) + (60 * d2 + 10600) ≤ 60 * d + 10600; omega⟩) ⟨calling_blind, fun U hU hWm => pre_of hK hW hS U hU hWm⟩ rfl hn (by rw [← hml]; exact hl.1) rfl (by show 2 * 0 + _ ≤ 8; omega) dg ⟨by subst hR; show _ ≤ gCAP - sN st0; omega, by subst hR; show _ ≤ gCAPS - sS st0; omega⟩) hE hl hS kn kx
theorem X_callIN (C : Cx θ κ y cc nL ret hh d) {y2 : MethodName} {by2 : ByteArray} {maxL : Nat} {idx d2 : Nat} {As rest : List Value} {n : Nat} {a : Nat} {host : String} (hq1 : Cond.methodLinkNest y.cls idx y2 host ∈ lw_tbl) (hq2 : Cond.instanceMethod y2 ∈ lw_all) (hq4 : Cond.initialized y2.cls ∈ lw_all) (hq5 : Cond.code y2 by2 maxL none ∈ lw_all) (hin2 : y2.name = "<init>") (hnm2 : y2.cls ≠ "java/lang/invoke/MethodHandle" ∧ y2.cls ≠ "java/lang/invoke/VarHandle" ∧ (parseMethodDescriptor y2.desc).map (fun d => d.parameters.length) = some n) (hn : As.length = n) (dg : decode cc pc = .ok (.invokespecial idx, 3)) (hM : Ct θ κ.2.1 y2 (ws_ y2 by2 maxL none) d2 (.ref (ad θ a) :: As) st Ψ) (hd : d2 < d) (hmL : maxL ≤ 40) (hrest : (rest.map fun v => v.category).sum ≤ 8) (kn : ∀ st2 v, Ext st st2 → Ψ.1 st2 v → X θ κ Φ st2 (pc + 3) lo (v.toList ++ rest)) (kx : ∀ st2 E q, Ext st st2 → Ψ.2 st2 E q → XT θ κ Φ st2 pc lo E q) : X θ κ Φ st pc lo (As.reverse ++ .ref (ad θ a) :: rest) := by
  obtain ⟨p, l, e, R, s, m, args, below, meth, c, st0⟩ := κ
  obtain ⟨hx, hb, hml, hown, hts, hr, hlk, htb, hK, hW0, hR, hst, hnm⟩ := C
  intro H locs ls cells slots hW hE hl hS
  have hb0 : thb θ ≤ s.heap.size := by have := hW0.1; omega
  refine W_narrow hb0 (fun f1 f2 => ?_)
  have g1 := hW0.1
  have g2 := hW.1
  have g3 := hW.2.2.1
  have g4 := hW0.2.1
  have g5 := hW.2.1
  have g6 := hW.2.2.2.1
  exact run_X (vx_runIN (As := As) (rest := rest) ⟨hx, hb, hml, hown, hts⟩ hM (⟨va_cnB n hts (lw_meth hq5) rfl rfl rfl (hK.2.1.1 _ hq1 rfl) (hts _ hq4) hnm2 ⟨by subst hR; show d2 + 20 + 1 ≤ d + 20; omega, by subst hR; show 8 + (maxL + 11) + (60 * d2 + 10600) ≤ 60 * d + 10600; omega⟩, hin2, hts _ hq2⟩) ⟨calling_blind, fun U hU hWm => pre_of hK hW hS U hU hWm⟩ rfl hn (by rw [← hml]; exact hl.1) rfl (by show 2 * 0 + _ ≤ 8; omega) dg ⟨by subst hR; show _ ≤ gCAP - sN st0; omega, by subst hR; show _ ≤ gCAPS - sS st0; omega⟩) hE hl hS kn kx
theorem X_objInit (C : Cx θ κ y cc nL ret hh d) {idx : Nat} {v : Value} (h0 : ∃ a, v = .ref a) (hq1 : Cond.methodLink y.cls idx Lib.objectInit ∈ lw_all) (hq2 : Cond.instanceMethod Lib.objectInit ∈ lw_all) (hq3 : Cond.code Lib.objectInit ⟨#[0xb1]⟩ 1 none ∈ lw_all) (hrest : (stk.map fun v => v.category).sum ≤ 8) (dg : decode cc pc = .ok (.invokespecial idx, 3)) (k : X θ κ Φ st (pc + 3) lo stk) : X θ κ Φ st pc lo (v :: stk) := by
  obtain ⟨p, l, e, R, s, m, args, below, meth, c, st0⟩ := κ
  obtain ⟨hx, hb, hml, hown, hts, hr, hlk, htb, hK, hW0, hR, hst, hnm⟩ := C
  intro H locs ls cells slots hW hE hl hS
  obtain ⟨a, rfl⟩ := h0
  exact W.objInit hx hb hown (hts _ hq1) (hts _ hq2) (hts _ hq3) rfl hl.1 rfl dg (by subst hR; show 1 ≤ d + 20; omega) (by subst hR; show 2 * 0 + (stk.map fun v => v.category).sum + 12 ≤ 60 * d + 10600; omega) (k H locs ls cells slots hW hE hl hS)
/-! throws -/
theorem X_athrow (C : Cx θ κ y cc nL ret hh d) {ci a : Nat} {q : vw_C} (hc : gcl[ci]? = some q) (hsh : sh st a = ci + 1) (dg : decode cc pc = .ok (.athrow, 1)) (k : XT θ κ Φ st pc lo q.1 (ad θ a)) (h9 : ci ≠ 9 := by decide) : X θ κ Φ st pc lo (.ref (ad θ a) :: stk) := by
  obtain ⟨p, l, e, R, s, m, args, below, meth, c, st0⟩ := κ
  obtain ⟨hx, hb, hml, hown, hts, hr, hlk, htb, hK, hW0, hR, hst, hnm⟩ := C
  intro H locs ls cells slots hW hE hl hS
  obtain ⟨cell, q1, q2, q3, q4⟩ := cell_obj hW hc hsh (Or.inr h9)
  have hcl := (hK.1.1 ci _ hc).2.1
  rw [← q2] at hcl
  exact vx_athrow hx hb dg (k H locs ls cells slots stk cell hW hE hl hS q1 q3 hcl)
theorem XT_out (C : Cx θ κ y cc nL ret hh d) {E : String} {q : Addr} (hout : ((tableOf hh).all fun x => covers x pc == false) = true) (h : Φ.2 st E q) : XT θ κ Φ st pc lo E q := by
  obtain ⟨p, l, e, R, s, m, args, below, meth, c, st0⟩ := κ
  obtain ⟨hx, hb, hml, hown, hts, hr, hlk, htb, hK, hW0, hR, hst, hnm⟩ := C
  have hb0 : thb θ ≤ s.heap.size := by have := hW0.1; omega
  intro H locs ls cells slots rest ce hW hE hl hS hce hcv hcl
  refine vx_narrow hb0 (fun f1 f2 => ?_)
  have g1 := hW0.1
  have g2 := hW.1
  have g3 := hW.2.2.1
  have g4 := hW0.2.1
  have g5 := hW.2.1
  have g6 := hW.2.2.2.1
  exact vx_out (by rw [htb]; intro x hx9; exact beq_iff_eq.mp (List.all_eq_true.mp hout x hx9)) hlk hce hcv hcl (fun t ht hal => ⟨⟨st, h, by rw [ht]; exact hW, hE⟩, hS.F ht⟩) hS.2.2 (by omega) (by omega)
theorem XT_catch (C : Cx θ κ y cc nL ret hh d) {E name : String} {q : Addr} (pre : List ExceptionTableEntry) (x : ExceptionTableEntry) (suf : List ExceptionTableEntry) (hsplit : tableOf hh = pre ++ x :: suf)
    (hpass : ∀ z ∈ pre, covers z pc = false ∨ (z.catchType ≠ 0 ∧ ∃ nm : String, Cond.classLink y.cls z.catchType nm ∈ lw_all ∧ (E, nm) ∈ gNC)) (hcov : covers x pc = true) (h0 : x.catchType ≠ 0) (hlink : Cond.classLink y.cls x.catchType name ∈ lw_all) (hcast : Cond.castable E name ∈ lw_tbl)
    (k : X θ κ Φ st x.handlerPc lo [.ref q]) : XT θ κ Φ st pc lo E q := by
  obtain ⟨p, l, e, R, s, m, args, below, meth, c, st0⟩ := κ
  obtain ⟨hx, hb, hml, hown, hts, hr, hlk, htb, hK, hW0, hR, hst, hnm⟩ := C
  intro H locs ls cells slots rest ce hW hE hl hS hce hcv hcl
  exact vx_catch hown pre x suf (by rw [htb]; exact hsplit) (fun z hz => (hpass z hz).elim Or.inl (fun h => Or.inr ⟨h.1, h.2.elim fun nm g => ⟨nm, hts _ g.1, hK.2.1.2.2.2 _ g.2⟩⟩)) hcov h0 (hts _ hlink) ((hK.2.1.1 _ hcast rfl).use rfl) hce hcv hcl (k H locs ls cells slots hW hE hl hS)
end CALLS
/-! a method's entry -/
theorem Ct_entry {θ : Th} {l : Launch} {y : MethodName} {cc : ByteArray} {nL : Nat} {ret : Option FieldType} {d : Nat} {As : List Value} {st : St} {Φ : Ph} (hl0 : l.stackTraces = false) (hpn : plainFor y = true) (hfit : (lg_sl As).length ≤ nL)
    (k : ∀ κ : Kx, κ.2.1 = l → κ.2.2.2.2.2.2.2.2.2.2 = st → Cx θ κ y cc nL ret [] d → X θ κ Φ st 0 (lv_args 0 As) []) : Ct θ l y (ws_ y cc nL ret) d As st Φ := by
  refine vx_ofW (cc := cc) (maxL := nL) (ret := ret) hpn rfl ?_
  intro p e s m args below meth c s₁ B hml htab hv
  obtain ⟨rfl, hW, hKW⟩ := hv
  have hts := atoms_spec (ws := ws_ y cc nL ret) B.pre
  have hts2 : ∀ w ∈ lw_all, w.before _ s = true := fun w h => hts w (List.mem_cons_of_mem _ h)
  have hown : s.vm.findClass y.cls = some m.cls := findClass_of_methodNamed B.named
  have htab2 : c.exceptionTable.toList = tableOf [] := List.eq_nil_iff_forall_not_mem.mpr htab
  have X0 := k (p, l, e, rmD d st, s, m, As.toArray, below, meth, c, st) rfl rfl ⟨B.exec, B.bytes, hml, hown, hts2, B.returns, B.notSynchronized, htab2, hKW, Wq_of hW, rfl, hl0, (name_of_methodNamed B.named B.method).1⟩
  have hle := lv_entry As hfit
  rw [lg_entry_eq]
  exact X0 s.heap [] _ 0 0 hW Ext_rf (by rw [hml]; exact hle) va_S.rf
theorem Ct_entryW {θ : Th} {l : Launch} {y : MethodName} {cc : ByteArray} {nL : Nat} {ret : Option FieldType} {hh : List (Nat × Nat × Nat × Nat)} {d : Nat} {As : List Value} {st : St} {Φ : Ph} (hl0 : l.stackTraces = false) (hpn : plainFor y = true) (hfit : (lg_sl As).length ≤ nL)
    (k : ∀ κ : Kx, κ.2.1 = l → κ.2.2.2.2.2.2.2.2.2.2 = st → Cx θ κ y cc nL ret hh d → X θ κ Φ st 0 (lv_args 0 As) []) : Ct θ l y (wsW_ y cc nL ret hh) d As st Φ := by
  refine vx_ofWH (cc := cc) (maxL := nL) (ret := ret) (hh := hh) hpn rfl ?_
  intro p e s m args below meth c s₁ B hml hv
  obtain ⟨rfl, hW, hKW⟩ := hv
  have hts := atoms_spec (ws := wsW_ y cc nL ret hh) B.pre
  have htab2 : c.exceptionTable.toList = tableOf hh := vx_table (x := y) B (hts _ List.mem_cons_self)
  have hts2 : ∀ w ∈ lw_all, w.before _ s = true := fun w h => hts w (List.mem_cons_of_mem _ h)
  have hown : s.vm.findClass y.cls = some m.cls := findClass_of_methodNamed B.named
  have X0 := k (p, l, e, rmD d st, s, m, As.toArray, below, meth, c, st) rfl rfl ⟨B.exec, B.bytes, hml, hown, hts2, B.returns, B.notSynchronized, htab2, hKW, Wq_of hW, rfl, hl0, (name_of_methodNamed B.named B.method).1⟩
  have hle := lv_entry As hfit
  rw [lg_entry_eq]
  exact X0 s.heap [] _ 0 0 hW Ext_rf (by rw [hml]; exact hle) va_S.rf
