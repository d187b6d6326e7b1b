/-! MY OWN LAYER, 8: super.m(..), two references compared, a row's clone -/
section MORE4
variable {θ : Th} {κ : Kx} {Φ Ψ : Ph} {y : MethodName} {cc : ByteArray} {nL : Nat} {ret : Option FieldType} {hh : List (Nat × Nat × Nat × Nat)} {d : Nat} {st : St} {pc : Nat} {lo : List (Nat × Value)} {stk : List Value}
theorem X_callSU (C : Cx θ κ y cc nL ret hh d) {y2 : MethodName} {by2 : ByteArray} {maxL : Nat} {idx d2 : Nat} {As rest : List Value} {ret2 : Option FieldType} {n : Nat} {ci a : Nat} {q : vw_C} (hc : gcl[ci]? = some q) (hsh : sh st a = ci + 1) (hq1 : Cond.methodLink y.cls idx y2 ∈ lw_all) (hsm : Cond.sameMethod y2.cls y2.cls y2.name y2.desc ∈ lw_all) (hsu : Cond.superclass y.cls y2.cls ∈ lw_all) (hq2 : Cond.instanceMethod y2 ∈ lw_all) (hq4 : Cond.initialized y2.cls ∈ lw_all) (hq5 : Cond.code y2 by2 maxL ret2 ∈ lw_all) (hni : y2.name ≠ "<init>") (hnm2 : y2.cls ≠ "java/lang/invoke/MethodHandle" ∧ y2.cls ≠ "java/lang/invoke/VarHandle" ∧ (parseMethodDescriptor y2.desc).map (fun d => d.parameters.length) = some n) (hn : As.length = n) (dg : decode cc pc = .ok (.invokespecial idx, 3)) (hM : Ct θ κ.2.1 y2 (ws_ y2 by2 maxL ret2) d2 (.ref (ad θ a) :: As) st Ψ) (hd : d2 < d) (hmL : maxL ≤ 40) (hrest : (rest.map fun v => v.category).sum ≤ 8) (kn : ∀ st2 v, Ext st st2 → Ψ.1 st2 v → X θ κ Φ st2 (pc + 3) lo (v.toList ++ rest)) (kx : ∀ st2 E q, Ext st st2 → Ψ.2 st2 E q → XT θ κ Φ st2 pc lo E q) : X θ κ Φ st pc lo (As.reverse ++ .ref (ad θ a) :: rest) := by
  obtain ⟨p, l, e, R, s, m, args, below, meth, c, st0⟩ := κ
  obtain ⟨hx, hb, hml, hown, hts, hr, hlk, htb, hK, hW0, hR, hst, hnm⟩ := C
  intro H locs ls cells slots hW hE hl hS
  have hb0 : thb θ ≤ s.heap.size := by have := hW0.1; omega
  refine W_narrow hb0 (fun f1 f2 => ?_)
  have g1 := hW0.1
  have g2 := hW.1
  have g3 := hW.2.2.1
  have g4 := hW0.2.1
  have g5 := hW.2.1
  have g6 := hW.2.2.2.1
  have hG : GoodIn lw_all (va_wsSU y.cls idx y2 (ws_ y2 by2 maxL ret2)) := by
    refine lw_app ?_ (lw_meth hq5)
    intro w hw
    simp only [List.mem_cons, List.not_mem_nil, or_false] at hw
    rcases hw with e | e | e | e | e
    · rw [e]; exact hq1
    · rw [e]; exact hsm
    · rw [e]; exact hsu
    · rw [e]; exact hq2
    · rw [e]; exact hq4
  exact run_X (vx_runSU (As := As) (rest := rest) (hK.1.1 ci _ hc).2 ⟨hx, hb, hml, hown, hts⟩ hM (va_cwSU n hts hG rfl rfl rfl ⟨hni, hnm2.2.2⟩ ⟨by subst hR; show d2 + 20 + 1 ≤ d + 20; omega, by subst hR; show 8 + (maxL + 11) + (60 * d2 + 10600) ≤ 60 * d + 10600; omega⟩) ⟨calling_blind, cell_of_obj (p := p) hK hW hc hsh, fun U hU hWm => pre_of hK hW hS U hU hWm⟩ rfl hn (by rw [← hml]; exact hl.1) rfl (by show 2 * 0 + _ ≤ 8; omega) dg ⟨by subst hR; show _ ≤ gCAP - sN st0; omega, by subst hR; show _ ≤ gCAPS - sS st0; omega⟩) hE hl hS kn kx
theorem rv_va (r : Option Nat) : rv θ r = va_rf (r.map (ad θ)) := by cases r <;> rfl
theorem X_acmp_ne (C : Cx θ κ y cc nL ret hh d) {rx ry : Option Nat} {off : Int} {tgt : Nat} (dg : decode cc pc = .ok (.if_acmp .ne off, 3)) (ht : (pc : Int) + off = (tgt : Int)) (kt : rx.map (ad θ) ≠ ry.map (ad θ) → X θ κ Φ st tgt lo stk) (kf : rx.map (ad θ) = ry.map (ad θ) → X θ κ Φ st (pc + 3) lo stk) : X θ κ Φ st pc lo (rv θ ry :: rv θ rx :: stk) := by
  obtain ⟨p, l, e, R, s, m, args, below, meth, c, st0⟩ := κ
  obtain ⟨hx, hb, hml, hown, hts, hr, hlk, htb, hK, hW0, hR, hst, hnm⟩ := C
  intro H locs ls cells slots hW hE hl hS
  rw [rv_va, rv_va]
  refine lv_acmp_ne hx hb dg ht ?_ ?_
  · intro h
    exact kt h H locs ls cells slots hW hE hl hS
  · intro h
    exact kf h H locs ls cells slots hW hE hl hS
/-- two Strings at one address have the same letters -/
def SameS (st : St) (a b : Nat) : Prop := ∀ x y, sR st a 0 = some x → sR st b 0 = some y → sh st x = 103 → sh st y = 103 → ln st x = ln st y ∧ ∀ i, i < ln st x → sI st x i = sI st y i
theorem sameS_of {st : St} {H : Heap} (hW : Wd θ st H) {a b : Nat} (ha : sh st a = 10) (hb : sh st b = 10) (h : ad θ a = ad θ b) : SameS st a b := by
  intro x y hx hy sx sy
  obtain ⟨c1, p1, -, -, p4⟩ := cell_objW hW (ci := 9) (q := (RJ6, TJ6, 4)) rfl ha
  obtain ⟨c2, r1, -, -, r4⟩ := cell_objW hW (ci := 9) (q := (RJ6, TJ6, 4)) rfl hb
  rw [h] at p1
  cases p1.symm.trans r1
  have e1 := Option.some.inj ((p4 0 (by decide)).symm.trans (r4 0 (by decide)))
  have e2 : rv θ (sR st a 0) = rv θ (sR st b 0) := e1
  rw [hx, hy] at e2
  have e3 : ad θ x = ad θ y := by
    have e9 : Value.ref (ad θ x) = Value.ref (ad θ y) := e2
    injection e9
  obtain ⟨c8, a1, -, ⟨w3, w4, w6, w7⟩, -⟩ := cell_arrW hW sx (by omega)
  obtain ⟨c9, a2, -, ⟨u3, u4, u6, u7⟩, -⟩ := cell_arrW hW sy (by omega)
  by_cases hxy : x = y
  · subst hxy
    exact ⟨rfl, fun _ _ => rfl⟩
  have hbig : gBIG ≤ x ∧ gBIG ≤ y := by
    have h9 := hW.2.2.2.2.2.1
    by_cases g1 : x < gBIG
    · exact absurd (ad_lo g1).symm (by rw [e3]; exact fun e => ad_ne h9 g1 (fun e2 => hxy e2.symm) e.symm)
    · by_cases g2 : y < gBIG
      · exact absurd (ad_lo g2).symm (by rw [← e3]; exact fun e => ad_ne h9 g2 hxy e.symm)
      · exact ⟨Nat.not_lt.mp g1, Nat.not_lt.mp g2⟩
  rw [e3] at a1
  have e4 := Option.some.inj (a1.symm.trans a2)
  subst e4
  have e5 : ln st x = ln st y := by
    have e9 := w4.symm.trans u4
    have g1 := w7 hbig.1
    have g2 := u7 hbig.2
    have e10 := congrArg Int32.toNatClampNeg e9
    rwa [Int32.toNatClampNeg_ofNat_of_lt g1, Int32.toNatClampNeg_ofNat_of_lt g2] at e10
  refine ⟨e5, fun i hi => ?_⟩
  have e10 := Option.some.inj ((w3 i hi).symm.trans (u3 i (by omega)))
  have e11 : Value.int (sI st x i) = Value.int (sI st y i) := e10
  injection e11
theorem X_acmpS (C : Cx θ κ y cc nL ret hh d) {a b : Nat} {off : Int} {tgt : Nat} (ha : sh st a = 10) (hb9 : sh st b = 10) (dg : decode cc pc = .ok (.if_acmp .ne off, 3)) (ht : (pc : Int) + off = (tgt : Int)) (kt : a ≠ b → X θ κ Φ st tgt lo stk) (kf : SameS st a b → X θ κ Φ st (pc + 3) lo stk) : X θ κ Φ st pc lo (.ref (ad θ b) :: .ref (ad θ a) :: stk) := by
  obtain ⟨p, l, e, R, s, m, args, below, meth, c, st0⟩ := κ
  obtain ⟨hx, hb, hml, hown, hts, hr, hlk, htb, hK, hW0, hR, hst, hnm⟩ := C
  intro H locs ls cells slots hW hE hl hS
  refine lv_acmp_ne (rx := some (ad θ a)) (ry := some (ad θ b)) hx hb dg ht ?_ ?_
  · intro h
    exact kt (fun e9 => h (by rw [e9])) H locs ls cells slots hW hE hl hS
  · intro h
    exact kf (sameS_of hW ha hb9 (Option.some.inj h)) H locs ls cells slots hW hE hl hS
theorem X_ldcws (C : Cx θ κ y cc nL ret hh d) {k : Nat} {tx : String} {i : Nat} (hm : (y.cls, k, tx, i) ∈ gSR) (dg : decode cc pc = .ok (.ldc_w k, 3)) (kk : X θ κ Φ st (pc + 3) lo (.ref (ad θ (gBIG + 2 * i)) :: stk)) : X θ κ Φ st pc lo stk := by
  obtain ⟨p, l, e, R, s, m, args, below, meth, c, st0⟩ := κ
  obtain ⟨hx, hb, hml, hown, hts, hr, hlk, htb, hK, hW0, hR, hst, hnm⟩ := C
  have hsr := hK.2.2.1 _ hm
  intro H locs ls cells slots hW hE hl hS T hT X
  obtain ⟨t, a1, b1⟩ := kk H locs ls cells slots hW hE hl hS T hT X
  exact ⟨t, X.ldcStringW hx hown (text := tx) hsr.1 hsr.2 (g := F0 m pc ls stk) rfl (by rw [hb]; exact dg) t a1, b1⟩
theorem X_ton (k : X θ κ Φ st pc lo (.null :: stk)) : X θ κ Φ st pc lo (rv θ none :: stk) := k
theorem lookup_d {ps : List (Int × Int)} {d0 z : Int} (h : ∀ q ∈ ps, q.1 ≠ z) : Op.lookupswitch.offset ps d0 z = d0 := by
  refine Op.lookupswitch.offset_none ?_
  rw [List.find?_eq_none]
  intro q hq
  simpa using h q hq
/-- a row of bytes and its copy -/
def clB (st : St) (a : Nat) : St := (sN st + 1, sS st + ln st a, fun k => if k = sN st then 103 else sh st k, fun k => if k = sN st then ln st a else ln st k, fun k i => if k = sN st then sI st a i else sI st k i, fun k i => if k = sN st then 0 else sL st k i, fun k i => if k = sN st then none else sR st k i)
theorem Wd_pushG {st st' : St} {H H' : Heap} (h : Wd θ st H) {cd n : Nat} (hN : sN st + 1 ≤ gCAP) (hS : sS st + n ≤ gCAPS) (e1 : sN st' = sN st + 1) (e2 : sS st' = sS st + n) (e3 : ∀ k, k ≠ sN st → sh st' k = sh st k) (e4 : ∀ k, k ≠ sN st → ln st' k = ln st k) (e5 : ∀ k, k ≠ sN st → ∀ i, sI st' k i = sI st k i ∧ sL st' k i = sL st k i ∧ sR st' k i = sR st k i) (hz : H'.size = H.size + 1) (ho : ∀ q : Nat, q < H.size → H'[q]? = H[q]?) {c' : Cell} (hc' : H'[H.size]? = some c') (hs : c'.slots.size = n) (hi : cellIs θ st' (sN st) c') : Wd θ st' H' := by
  have hlt : ∀ k, sh st k ≠ 0 → k ≠ sN st := fun k hk => by
    by_cases hb : k < gBIG
    · exact Nat.ne_of_lt (Wd_lt h hk hb)
    · have : sN st ≤ gCAP := h.2.2.1
      unfold gBIG at hb
      unfold gCAP at this
      omega
  obtain ⟨h1, h2, h3, h4, h5, h6, h7, h8⟩ := h
  have hNb : sN st < gBIG := by unfold gBIG; unfold gCAP at h3; omega
  refine ⟨by rw [e1]; omega, ?_, by rw [e1]; exact hN, by rw [e2]; exact hS, fun k hk => ?_, h6, fun k hk => ?_, fun k hb hk => ?_⟩
  · rw [ss_push hz ho hc' (by omega), h2, hs, e2]
  · by_cases hka : k = sN st
    · subst hka
      exact ⟨c', by rw [ad_lo hNb, ← h1]; exact hc', cellOk_of hNb hi⟩
    · have hk2 : sh st k ≠ 0 := by rw [← e3 k hka]; exact hk
      obtain ⟨ck, g1, g2⟩ := h5 k hk2
      have g3 : ad θ k < H.size := (Array.getElem?_eq_some_iff.mp g1).1
      exact ⟨ck, by rw [ho _ g3]; exact g1, cellOk_congr (e3 k hka) (e4 k hka) (fun ty i => sv_of (e5 k hka i).1 (e5 k hka i).2.1 (e5 k hka i).2.2 ty) g2⟩
  · obtain ⟨g0, g1, g2, g3⟩ := h7 k hk
    have hka := hlt k (by rw [g1]; exact hk)
    exact ⟨g0, by rw [e3 k hka]; exact g1, by rw [e4 k hka]; exact g2, fun j a hj => by rw [(e5 k hka j).2.2]; exact g3 j a hj⟩
  · obtain ⟨g1, g2, g3, g4⟩ := h8 k hb hk
    have hka : k ≠ sN st := by omega
    exact ⟨by rw [e3 k hka]; exact g1, by rw [e4 k hka]; exact g2, fun j => (e5 k hka j).1.trans (g3 j), fun j => (e5 k hka j).2.2.trans (g4 j)⟩
theorem X_clone (C : Cx θ κ y cc nL ret hh d) {a index : Nat} (hsh : sh st a = 103) (hlink : Cond.methodLink y.cls index ⟨"[B", "clone", "()Ljava/lang/Object;"⟩ ∈ lw_all) (hsame : Cond.sameMethod "[B" "java/lang/Object" "clone" "()Ljava/lang/Object;" ∈ lw_all) (hnat : Cond.native ⟨"java/lang/Object", "clone", "()Ljava/lang/Object;"⟩ ∈ lw_all) (hinst : Cond.instanceMethod ⟨"java/lang/Object", "clone", "()Ljava/lang/Object;"⟩ ∈ lw_all) (hsel : Cond.selects "[B" ⟨"[B", "clone", "()Ljava/lang/Object;"⟩ ⟨"java/lang/Object", "clone", "()Ljava/lang/Object;"⟩ ∈ lw_all) (hcl : Cond.castable "[B" "java/lang/Cloneable" ∈ lw_tbl) (hby : ∀ i, i < ln st a → fits .byte (.int (sI st a i)) = true) (hN : sN st + 1 ≤ gCAP) (hSl : sS st + ln st a ≤ gCAPS) (hrest : (stk.map fun v => v.category).sum ≤ 8) (dg : decode cc pc = .ok (.invokevirtual index, 3)) (k : Ext st (clB st a) → X θ κ Φ (clB st a) (pc + 3) lo (.ref (ad θ (sN st)) :: stk)) (ha : a < gBIG := by assumption) : X θ κ Φ st pc lo (.ref (ad θ a) :: stk) := by
  obtain ⟨p, l, e, R, s, m, args, below, meth, c, st0⟩ := κ
  obtain ⟨hx, hb, hml, hown, hts, hr, hlk, htb, hK, hW0, hR, hst, hnm2⟩ := C
  intro H locs ls cells slots hW hE hl hS
  have hb0 : thb θ ≤ s.heap.size := by have := hW0.1; omega
  refine W_narrow hb0 (fun f1 f2 => ?_)
  have g1 := hW0.1
  have g2 := hW.1
  have g3 := hW.2.2.1
  have g4 := hW0.2.1
  have g5 := hW.2.1
  have g6 := hW.2.2.2.1
  have hnm := nm_arrB (θ := θ) hK
  obtain ⟨c0, t0', q1, q2, q3⟩ := Cond.castable_spec ((hK.2.1.1 _ hcl rfl).use (A := args) rfl)
  cases hnm.symm.trans q1
  intro T hT X
  obtain ⟨c9, hcell0, w2, w3, w4, w5⟩ : ∃ c9 : Cell, H[ad θ a]? = some c9 ∧ c9.cls = thA θ 103 ∧ c9.slots = (arrV (thA θ 103) (ln st a) (fun j => sv θ st (acomp 103) a j)).slots ∧ c9.vm ≠ .unknown ∧ c9.vm.isStatics = false := ⟨_, cell_arr hW ha hsh (by omega), rfl, rfl, (fun h => by cases h), rfl⟩
  have hcellT : T.heap[ad θ a]? = some c9 := by rw [hT]; exact hcell0
  obtain ⟨-, kA, hkA, comp, hkind⟩ := State.isArrayOf_alike X.warmed.alike ((hK.1.2 2 _ (gtys_at 2 rfl)).1 0 (fun _ => .null))
  obtain ⟨-, kS, hkS, compS, hkindS⟩ := (hK.1.2 2 _ (gtys_at 2 rfl)).1 0 (fun _ => .null)
  obtain ⟨vm', X', st9⟩ := X.cloneArray hx hown (hts _ hlink) (hts _ hsame) (hts _ hnat) (hts _ hinst) (hts _ hsel) (a := ad θ a) hcellT (fun k h => by rw [h] at w5; cases w5) w4 (by rw [w2]; exact hnm) q2 (by rw [w2]; exact q3)
    (fun i v hv => by
      have hk' : T.vm.classes[thA θ 103]? = some kA := hkA
      have hi9 : i < ln st a := by
        have := (Array.getElem?_eq_some_iff.mp hv).1
        rwa [w3, arrV_size] at this
      rw [w3, arrV_read _ _ hi9] at hv
      have e9 := Option.some.inj hv
      subst e9
      rw [w2]
      show T.fitsSlot (thA θ 103) _ i _ = true
      have h9 : fits (acomp 103) (sv θ st (acomp 103) a i) = true := hby i hi9
      simpa [State.fitsSlot, State.slotType?, hk', hkind] using h9)
    (g := F0 m pc ls (.ref (ad θ a) :: stk)) rfl hl.1 rfl (by rw [hb]; exact dg) (by subst hR; show 1 ≤ d + 20; omega) (by subst hR; show 2 * 0 + _ + 14 ≤ 60 * d + 10600; omega) (by subst hR; show _ ≤ gCAP - sN st0; omega) (by subst hR; rw [w3, arrV_size]; show _ ≤ gCAPS - sS st0; omega) (hloader := Vm.clonesLoader_of_array (by rw [w2]; exact hkS) hkindS)
  rw [w3, arrV_size] at X'
  have hcE : ({ cls := c9.cls, slots := c9.slots } : Cell) = arrV (thA θ 103) (ln st a) (fun j => sv θ st (acomp 103) a j) := by rw [w2, w3]; rfl
  rw [← w3, hcE] at X'
  rw [hcE] at st9
  have hka : ∀ k, sh st k ≠ 0 → k ≠ sN st := fun k hk => by
    by_cases hb : k < gBIG
    · exact Nat.ne_of_lt (Wd_lt hW hk hb)
    · unfold gBIG at hb
      unfold gCAP at g3
      omega
  have hne : a ≠ sN st := hka a (by rw [hsh]; omega)
  have hExt : Ext st (clB st a) := ⟨Nat.le_succ _, fun k hk => by
    have := hka k hk
    exact ⟨by simp [clB, sh, this], by simp [clB, ln, this]⟩⟩
  have hNb : sN st < gBIG := by unfold gBIG; unfold gCAP at g3; omega
  have o1 : ∀ q : Nat, q < H.size → (H.push (arrV (thA θ 103) (ln st a) (fun j => sv θ st (acomp 103) a j)))[q]? = H[q]? := fun q hq => by rw [Array.getElem?_push, if_neg (Nat.ne_of_lt hq)]
  have hW9 : Wd θ (clB st a) (H.push (arrV (thA θ 103) (ln st a) (fun j => sv θ st (acomp 103) a j))) := by
    refine Wd_pushG hW (cd := 103) (n := ln st a) hN hSl rfl rfl (fun k hk => by simp [clB, sh, hk]) (fun k hk => by simp [clB, ln, hk]) (fun k hk i => by simp [clB, sI, sL, sR, hk]) (by simp) o1 (by rw [Array.getElem?_push_size]) (arrV_size _ _ _) ⟨fun h => ?_, fun _ => ?_⟩
    · have e9 : sh (clB st a) (sN st) = 103 := by simp [clB, sh]
      rw [e9] at h; omega
    · have e9 : sh (clB st a) (sN st) = 103 := by simp [clB, sh]
      have e8 : ln (clB st a) (sN st) = ln st a := by simp [clB, ln]
      rw [e9, e8]
      congr 1
      funext j
      simp [acomp, sv, clB, sI]
  obtain ⟨t, b1, b2⟩ := k hExt _ locs ls _ _ hW9 (Ext_tr hE hExt) hl ⟨by simp; exact Nat.le_succ_of_le hS.1, fun q h8 h9 => (o1 q (Nat.lt_of_lt_of_le h8 hS.1)).trans (hS.2.1 q h8 h9), hS.2.2⟩ ((T.setVm vm').pushCell (arrV (thA θ 103) (ln st a) (fun j => sv θ st (acomp 103) a j))) (by rw [← hT]; rfl) X'
  refine ⟨t, st9 t ?_, b2⟩
  rw [ad_lo hNb, ← g2] at b1
  rw [hT]
  exact b1
end MORE4
/-! a default method of an interface (vx_callIFD follows vx_callIF; interfaceBackD of the library) -/
section MORE4D
variable {p : Program} {l : Launch} {e : Env} {R : Room} {s : State} {m : MethodId} {args : Array Value} {below : List Frame} {meth : Method} {c : Code} {H : Heap} {locs : List Loc} {cells slots : Nat} {Q : State → Prop}
variable {mc ms : Nat} {free : Addr → Prop} {A0 A1 : Nat → Prop} {H0 : Heap} {a : Array Value} {pc : Nat} {ls : Array Slot} {st0 rest : List Value}
theorem vx_callIFD {T : State} (X : Stand p l e R s m args below meth c T locs cells slots) (hexec : p.tables.exec = Jvm.exec) {own C : String} {index count : Nat} {x y : MethodName} {bytes : ByteArray} {maxL : Nat} {ret : Option FieldType}
    (hown : s.vm.findClass own = some m.cls) (hlink : (Cond.methodLink own index x).before args s = true) (hdecl : (Cond.declares x).before args s = true) (hface : (Cond.interfaceMethod x.cls x.cls x.name x.desc).before args s = true)
    (hsel : (Cond.landsInDefault C x y).before args s = true) (hinst : (Cond.instanceMethod y).before args s = true) (hpub : (Cond.publicMethod y).before args s = true)
    (hcast : (Cond.castable C x.cls).before args s = true) (hcode : (Cond.code y bytes maxL ret).before args s = true) (hx : x.cls ≠ "java/lang/invoke/MethodHandle" ∧ x.cls ≠ "java/lang/invoke/VarHandle")
    {W9 : Nat} {Pre : Pt → Array Value → Prop} {Post : Pt → Array Value → Option Value → Pt → Prop} {PostX : Pt → Array Value → Addr → Pt → Prop} (hK : vx_Back l R p e below s args y 5 W9 Pre Post PostX)
    {b : Addr} {cellB : Cell} {kB : Class} (hcell : T.heap[b]? = some cellB) (hobj : cellB.vm.isStatics = false) (hcls : s.vm.findClass C = some cellB.cls) (hkB : s.vm.classes[cellB.cls]? = some kB)
    {g : JFrame} (hg : g.method = m) (hsize : g.locals.size = c.maxLocals) {argsL rest : List Value} (hlen : ∀ sig, parseMethodDescriptor x.desc = some sig → argsL.length = sig.parameters.length)
    (hstack : g.stack = argsL.reverse ++ .ref b :: rest) (hW : 2 * g.monitorRoom + (rest.map fun v => v.category).sum ≤ W9) (hdg : decode c.code g.pc = .ok (.invokeinterface index count, 5))
    (hpre : ∀ vm₁, s.WarmedH vm₁ → Pre ⟨T.setVm vm₁, locs, cells, slots⟩ (Value.ref b :: argsL).toArray) :
    (∃ (v : Option Value) (vm₁ : Vm) (B : Pt), s.WarmedH vm₁ ∧ Stand p l e R s m args below meth c B.U B.locs B.cells B.slots ∧ Post ⟨T.setVm vm₁, locs, cells, slots⟩ (Value.ref b :: argsL).toArray v B ∧
      ∀ target, Steps p.tables e below (B.U.setTop { g with pc := g.pc + 5, stack := v.toList ++ rest }) target → Steps p.tables e below (T.setTop g) target) ∨
    (∃ (q : Addr) (vm₁ : Vm) (B : Pt), s.WarmedH vm₁ ∧ Stand p l e R s m args below meth c B.U B.locs B.cells B.slots ∧ PostX ⟨T.setVm vm₁, locs, cells, slots⟩ (Value.ref b :: argsL).toArray q B ∧
      Steps p.tables e below (T.setTop g) ((B.U.setTop { g with stack := rest }).pushFrame (.throwing q))) := by
  obtain ⟨r0, r, hn, hrm, hstR, hsigR⟩ := Cond.declares_spec hdecl
  obtain ⟨cL, kL, r1, hcL, hkL, hiL, hfoundL, hn1⟩ := Cond.interfaceMethod_spec hface
  cases hn.symm.trans hn1
  have hr0cls : r0.cls = cL := Option.some.inj ((findClass_of_methodNamed hn).symm.trans hcL)
  obtain ⟨hnameR, hdescR⟩ := name_of_methodNamed hn hrm
  obtain ⟨mk, methM, hnamed, hmethM, -, habM⟩ := Cond.instanceMethod_spec hinst
  obtain ⟨c2, r2, m2, rm, q1, q2, q3, q5, q4, -, q6, -⟩ := Cond.landsInDefault_spec hsel
  cases hcls.symm.trans q1
  cases hfoundL.symm.trans q2
  cases hnamed.symm.trans q3
  cases hrm.symm.trans q5
  have hselP : selectMethod e.platform s.vm cellB.cls r0 = .method mk := by rw [Launch.admits_selectMethod X.admits]; exact q4
  have hpubM : hasFlag methM.accessFlags Acc.public_ = true := Cond.publicMethod_spec hnamed hmethM hpub
  have hway : ((cellB.cls :: s.vm.superclasses cellB.cls).any fun k => (declaredIn s.vm r.name r.desc k).any fun (_, z) => z.isPrivate || z.isStatic) = false := q6
  obtain ⟨c3, t3, w1, w2, w3⟩ := Cond.castable_spec hcast
  cases hcls.symm.trans w1
  cases hcL.symm.trans w2
  obtain ⟨vm₁, X₁, hstep₁⟩ := X.invokeinterface hexec hown hlink hn hrm hstR (by rw [hr0cls]; exact hkL) hiL hx (a := b) (cell := cellB) (kcell := kB) hcell
    (fun z h => by rw [h] at hobj; cases hobj) hkB (by rw [hr0cls]; exact w3) hselP hmethM hway hpubM habM (g := g) hg (argsL := argsL) (rest := rest) (hlen _ hsigR) hstack hdg
  rcases hK m meth c ⟨T.setVm vm₁, locs, cells, slots⟩ { g with stack := rest } (.invokeinterface index count) mk (Value.ref b :: argsL).toArray X₁ hg hsize hdg hW (X₁.named hnamed) (hpre vm₁ X₁.warmed) with ⟨v, B, X', hpost, hsteps⟩ | ⟨q, B, X', hpost, hsteps⟩
  · exact Or.inl ⟨v, vm₁, B, X₁.warmed, X', hpost, fun target h => hstep₁ _ fun acts => by rw [doInvoke_state]; exact hsteps.trans h⟩
  · exact Or.inr ⟨q, vm₁, B, X₁.warmed, X', hpost, hstep₁ _ fun acts => by rw [doInvoke_state]; exact hsteps⟩
theorem vx_runFD {x y : MethodName} {bytes cc : ByteArray} {maxL nL mc ms n index count : Nat} {ret : Option FieldType} {ws : List Cond} {rm : Room} {Pc : Array Value → State → Prop} {Qc : Array Value → State → Outcome → State → Prop} {XC : Addr → String → State → State → Prop} {free : Addr → Prop} {Ts : List Cond} {own C : String} {cC : ClassId} {b : Addr} {As rest : List Value} {g : JFrame}
    (hat : ClassAt s C cC) (S : CallFix p m c cc nL s args Ts own) (hM : vx_Met l y ws rm Pc Qc XC mc ms free) (hback : rm.cells = mc ∧ rm.slots = ms ∧ rm.frames + 1 ≤ R.frames ∧ 8 + (maxL + 11) + rm.locals ≤ R.locals ∧ (∀ w ∈ ws, ∀ (a' : Array Value) (U : State), s.WarmedH U.vm → w.before a' U = true) ∧ Cond.code y bytes maxL ret ∈ ws)
    (hlink : (Cond.methodLink own index x).before args s = true) (hFw : va_Fw C x y s) (hLD : LD C x s) (hxy : x = y) (hinst : (Cond.instanceMethod y).before args s = true) (hini : (Cond.initialized y.cls).before args s = true) (hcode : (Cond.code y bytes maxL ret).before args s = true) (hno : x.cls ≠ "java/lang/invoke/MethodHandle" ∧ x.cls ≠ "java/lang/invoke/VarHandle") (hlen : ∀ sig, parseMethodDescriptor x.desc = some sig → n = sig.parameters.length) (hp : PreV s H C b Pc As)
    (hg : g.method = m) (hn : As.length = n) (hsize : g.locals.size = nL) (hstack : g.stack = As.reverse ++ .ref b :: rest) (hW : 2 * g.monitorRoom + (rest.map fun v => v.category).sum ≤ 8) (hdg : decode cc g.pc = .ok (.invokeinterface index count, 5)) (hf : cells + mc ≤ R.cells ∧ slots + ms ≤ R.slots) :
    vx_Run5 p l e R s m args below meth c H locs cells slots mc ms g rest (Qc (Value.ref b :: As).toArray) XC free := by
  obtain ⟨hrc, hrs, hfr, hlo, hws, hcw⟩ := hback
  have hK : vx_Back l R p e below s args y 5 8 (PreOf R mc ms Pc) (PostOf Qc mc ms free) (vx_Post XC mc ms free) := vx_back (bytes := bytes) (maxL := maxL) (ret := ret) hM hp.1 hrc hrs hfr hlo hws hcw (fun a' U hW => word_at hW (Or.inl (by first | rfl | simp [Cond.onTables, Cond.keeps, Cond.steady])) hini)
  obtain ⟨hx, hb, hml, ho, -⟩ := S
  obtain ⟨-, ⟨cellB, hcB, hoB, hclB⟩, hPc⟩ := hp
  obtain ⟨hfc, kB, hkB, -⟩ := hat
  cases hfc.symm.trans hclB
  obtain ⟨h1, h2, h3, h4, h5⟩ := hFw
  subst hxy
  intro T hT X
  rcases vx_callIFD X hx (C := C) (bytes := bytes) (maxL := maxL) (ret := ret) ho hlink (va_any rfl h1) (va_any rfl h2) hLD hinst (va_any rfl h3) (va_any rfl h5) hcode hno hK (by rw [hT]; exact hcB) hoB hclB hkB hg (hsize.trans hml.symm) (argsL := As) (rest := rest) (fun sig h => hn.trans (hlen sig h)) hstack hW (by rw [hb]; exact hdg)
    (fun vm₁ hW₁ => ⟨hf.1, hf.2, hPc (T.setVm vm₁) hT hW₁⟩) with ⟨v, vm₁, ⟨U', l2, c2, s2⟩, hW₁, X', ⟨g', mk, t, L, e1, e2, hq, h1, hL, h2, h3⟩, st⟩ | ⟨q, vm₁, ⟨U', l2, c2, s2⟩, hW₁, X', ⟨g', mk, t, L, E, ce, e1, e2, hq, hce, hcv, hcl, h1, hL, h2, h3⟩, st⟩
  · dsimp only [Pt.U, Pt.locs, Pt.cells, Pt.slots] at X' e1 e2 h1 h2 h3 st
    subst h1; subst h2; subst h3
    exact Or.inl ⟨v, (T.setVm vm₁).calling g' mk (Value.ref b :: As).toArray, t, U', L, hT, X', hL, e1, e2, hq, st⟩
  · dsimp only [Pt.U, Pt.locs, Pt.cells, Pt.slots] at X' e1 e2 h1 h2 h3 st hcl
    subst h1; subst h2; subst h3
    exact Or.inr ⟨q, (T.setVm vm₁).calling g' mk (Value.ref b :: As).toArray, t, U', L, E, ce, hT, X', hL, e1, e2, hq, hce, hcv, vx_cls hW₁ hcl, st⟩
end MORE4D
section MORE4E
variable {θ : Th} {κ : Kx} {Φ Ψ : Ph} {y : MethodName} {cc : ByteArray} {nL : Nat} {ret : Option FieldType} {hh : List (Nat × Nat × Nat × Nat)} {d : Nat} {st : St} {pc : Nat} {lo : List (Nat × Value)} {stk : List Value}
theorem X_callFD (C : Cx θ κ y cc nL ret hh d) {x2 : MethodName} {by2 : ByteArray} {maxL : Nat} {idx cnt d2 : Nat} {As rest : List Value} {ret2 : Option FieldType} {n : Nat} {ci a : Nat} {q : vw_C} (hc : gcl[ci]? = some q) (hsh : sh st a = ci + 1) (hF : (q.1, x2, x2) ∈ gIF) (hD : (q.1, x2) ∈ gDF) (hq1 : Cond.methodLink y.cls idx x2 ∈ lw_all) (hq2 : Cond.instanceMethod x2 ∈ lw_all) (hq4 : Cond.initialized x2.cls ∈ lw_all) (hq5 : Cond.code x2 by2 maxL ret2 ∈ lw_all) (hnm2 : x2.cls ≠ "java/lang/invoke/MethodHandle" ∧ x2.cls ≠ "java/lang/invoke/VarHandle" ∧ (parseMethodDescriptor x2.desc).map (fun d => d.parameters.length) = some n) (hn : As.length = n) (dg : decode cc pc = .ok (.invokeinterface idx cnt, 5)) (hM : Ct θ κ.2.1 x2 (ws_ x2 by2 maxL ret2) d2 (.ref (ad θ a) :: As) st Ψ) (hd : d2 < d) (hmL : maxL ≤ 40) (hrest : (rest.map fun v => v.category).sum ≤ 8) (kn : ∀ st2 v, Ext st st2 → Ψ.1 st2 v → X θ κ Φ st2 (pc + 5) lo (v.toList ++ rest)) (kx : ∀ st2 E q, Ext st st2 → Ψ.2 st2 E q → XT θ κ Φ st2 pc lo E q) : X θ κ Φ st pc lo (As.reverse ++ .ref (ad θ a) :: rest) := by
  obtain ⟨p, l, e, R, s, m, args, below, meth, c, st0⟩ := κ
  obtain ⟨hx, hb, hml, hown, hts, hr, hlk, htb, hK, hW0, hR, hst, hnm⟩ := C
  intro H locs ls cells slots hW hE hl hS
  have hb0 : thb θ ≤ s.heap.size := by have := hW0.1; omega
  refine W_narrow hb0 (fun f1 f2 => ?_)
  have g1 := hW0.1
  have g2 := hW.1
  have g3 := hW.2.2.1
  have g4 := hW0.2.1
  have g5 := hW.2.1
  have g6 := hW.2.2.2.1
  have hlen : ∀ sig, parseMethodDescriptor x2.desc = some sig → n = sig.parameters.length := fun sig h => by
    have h2 := hnm2.2.2
    rw [h] at h2
    exact (Option.some.inj h2).symm
  exact run_X5 (vx_runFD (As := As) (rest := rest) (hK.1.1 ci _ hc).2 ⟨hx, hb, hml, hown, hts⟩ hM ⟨rfl, rfl, by subst hR; show d2 + 20 + 1 ≤ d + 20; omega, by subst hR; show 8 + (maxL + 11) + (60 * d2 + 10600) ≤ 60 * d + 10600; omega, pay_in hts (lw_meth hq5), List.mem_cons_self⟩ (hts _ hq1) (hK.2.1.2.2.1 _ hF) (hK.2.2.2.2.2.2.2.2.2.2.2.1 _ hD) rfl (hts _ hq2) (hts _ hq4) (hts _ hq5) ⟨hnm2.1, hnm2.2.1⟩ hlen ⟨calling_blind, cell_of_obj (p := p) hK hW hc hsh, fun U hU hWm => pre_of hK hW hS U hU hWm⟩ rfl hn (by rw [← hml]; exact hl.1) rfl (by show 2 * 0 + _ ≤ 8; omega) dg ⟨by subst hR; show _ ≤ gCAP - sN st0; omega, by subst hR; show _ ≤ gCAPS - sS st0; omega⟩) hE hl hS kn kx
end MORE4E
