/-! MY OWN LAYER, 6: casts, references in arrays, copies, calls by an interface, nulls and places outside -/
section MORE2
variable {θ : Th} {κ : Kx} {Φ Ψ : Ph} {y : MethodName} {cc : ByteArray} {nL : Nat} {ret : Option FieldType} {hh : List (Nat × Nat × Nat × Nat)} {d : Nat} {st : St} {pc : Nat} {lo : List (Nat × Value)} {stk : List Value}
theorem rv_cat {r : Option Nat} : (rv θ r).category = 1 := by cases r <;> rfl
theorem cell_of_obj {p : Program} {s : State} {H : Heap} (hK : KW θ s s.heap) (hW : Wd θ st H) {a ci : Nat} {q : vw_C} (hc : gcl[ci]? = some q) (hsh : sh st a = ci + 1) : ∃ cell : Cell, H[ad θ a]? = some cell ∧ cell.vm.isStatics = false ∧ s.vm.findClass q.1 = some cell.cls := by
  obtain ⟨cell, q1, q2, q3, q4⟩ := cell_objW hW hc hsh
  exact ⟨cell, q1, q3.2, by rw [q2]; exact (hK.1.1 ci _ hc).2.1⟩
/-- a cast to the object's own class -/
theorem X_castO (C : Cx θ κ y cc nL ret hh d) {a ci index : Nat} {q : vw_C} {nm : String} (hc : gcl[ci]? = some q) (hsh : sh st a = ci + 1) (hnm : q.1 = nm) (hlink : Cond.classLink y.cls index nm ∈ lw_all) (dg : decode cc pc = .ok (.checkcast index, 3)) (k : X θ κ Φ st (pc + 3) lo (.ref (ad θ a) :: stk)) : X θ κ Φ st pc lo (.ref (ad θ a) :: stk) := by
  obtain ⟨p, l, e, R, s, m, args, below, meth, c, st0⟩ := κ
  obtain ⟨hx, hb, hml, hown, hts, hr, hlk, htb, hK, hW0, hR, hst, hnm2⟩ := C
  subst hnm
  intro H locs ls cells slots hW hE hl hS
  exact va_castS hx hb hown (hts _ hlink) (hK.1.1 ci _ hc).2 (cell_of_obj (p := p) hK hW hc hsh) dg (k H locs ls cells slots hW hE hl hS)
theorem X_instO (C : Cx θ κ y cc nL ret hh d) {a ci index : Nat} {q : vw_C} {nm : String} (hc : gcl[ci]? = some q) (hsh : sh st a = ci + 1) (hnm : q.1 = nm) (hlink : Cond.classLink y.cls index nm ∈ lw_all) (dg : decode cc pc = .ok (.instanceof index, 3)) (k : X θ κ Φ st (pc + 3) lo (.int 1 :: stk)) : X θ κ Φ st pc lo (.ref (ad θ a) :: stk) := by
  obtain ⟨p, l, e, R, s, m, args, below, meth, c, st0⟩ := κ
  obtain ⟨hx, hb, hml, hown, hts, hr, hlk, htb, hK, hW0, hR, hst, hnm2⟩ := C
  subst hnm
  intro H locs ls cells slots hW hE hl hS
  exact va_instS hx hb hown (hts _ hlink) (hK.1.1 ci _ hc).2 (cell_of_obj (p := p) hK hW hc hsh) dg (k H locs ls cells slots hW hE hl hS)
/-- a cast of an array to its own class -/
theorem X_castT (C : Cx θ κ y cc nL ret hh d) {a t index : Nat} {nm : String} (h100 : 100 ≤ t) (hsh : sh st a = t) (hnm : ∀ s : State, KW θ s s.heap → s.vm.findClass nm = some (thA θ t)) (hlink : Cond.classLink y.cls index nm ∈ lw_all) (dg : decode cc pc = .ok (.checkcast index, 3)) (k : X θ κ Φ st (pc + 3) lo (.ref (ad θ a) :: stk)) : X θ κ Φ st pc lo (.ref (ad θ a) :: stk) := by
  obtain ⟨p, l, e, R, s, m, args, below, meth, c, st0⟩ := κ
  obtain ⟨hx, hb, hml, hown, hts, hr, hlk, htb, hK, hW0, hR, hst, hnm2⟩ := C
  intro H locs ls cells slots hW hE hl hS
  intro T hT X
  obtain ⟨c9, w1, w2, w3, w4, w5⟩ := cell_arrW hW hsh h100
  obtain ⟨vm', X', st9⟩ := X.checkcastYes hx hown (hts _ hlink) (by rw [hT]; exact w1) w5 (by rw [w2]; exact hnm s hK) (va_asg _ _) (g := F0 m pc ls (.ref (ad θ a) :: stk)) rfl rfl (by rw [hb]; exact dg)
  obtain ⟨t9, a1, b1⟩ := k H locs ls cells slots hW hE hl hS (T.setVm vm') hT X'
  exact ⟨t9, st9 t9 a1, b1⟩
theorem X_instT (C : Cx θ κ y cc nL ret hh d) {a t index : Nat} {nm : String} (h100 : 100 ≤ t) (hsh : sh st a = t) (hnm : ∀ s : State, KW θ s s.heap → s.vm.findClass nm = some (thA θ t)) (hlink : Cond.classLink y.cls index nm ∈ lw_all) (dg : decode cc pc = .ok (.instanceof index, 3)) (k : X θ κ Φ st (pc + 3) lo (.int 1 :: stk)) : X θ κ Φ st pc lo (.ref (ad θ a) :: stk) := by
  obtain ⟨p, l, e, R, s, m, args, below, meth, c, st0⟩ := κ
  obtain ⟨hx, hb, hml, hown, hts, hr, hlk, htb, hK, hW0, hR, hst, hnm2⟩ := C
  intro H locs ls cells slots hW hE hl hS
  intro T hT X
  obtain ⟨c9, w1, w2, w3, w4, w5⟩ := cell_arrW hW hsh h100
  obtain ⟨vm', X', st9⟩ := X.instanceofYes hx hown (hts _ hlink) (by rw [hT]; exact w1) w5 (by rw [w2]; exact hnm s hK) (va_asg _ _) (g := F0 m pc ls (.ref (ad θ a) :: stk)) rfl rfl (by rw [hb]; exact dg)
  obtain ⟨t9, a1, b1⟩ := k H locs ls cells slots hW hE hl hS (T.setVm vm') hT X'
  exact ⟨t9, st9 t9 a1, b1⟩
/-- an array of longs isn't one of shorts -/
theorem X_instJS (C : Cx θ κ y cc nL ret hh d) {a index : Nat} (hsh : sh st a = 102) (hlink : Cond.classLink y.cls index "[S" ∈ lw_all) (dg : decode cc pc = .ok (.instanceof index, 3)) (k : X θ κ Φ st (pc + 3) lo (.int 0 :: stk)) : X θ κ Φ st pc lo (.ref (ad θ a) :: stk) := by
  obtain ⟨p, l, e, R, s, m, args, below, meth, c, st0⟩ := κ
  obtain ⟨hx, hb, hml, hown, hts, hr, hlk, htb, hK, hW0, hR, hst, hnm2⟩ := C
  intro H locs ls cells slots hW hE hl hS
  obtain ⟨c9, w1, w2, w3, w4, w5⟩ := cell_arrW hW hsh (by omega)
  exact va_instNo hx hb hown (hts _ hlink) (hK.2.1.2.2.2 ("[J", "[S") (by decide)) ⟨c9, w1, w5, by rw [w2]; exact va_nm_long (hK.1.2 1 _ (gtys_at 1 rfl)).2⟩ dg (k H locs ls cells slots hW hE hl hS)
theorem nm_arrB {s : State} (hK : KW θ s s.heap) : s.vm.findClass "[B" = some (thA θ 103) := va_nm_byte (hK.1.2 2 _ (gtys_at 2 rfl)).2
theorem nm_arrJ {s : State} (hK : KW θ s s.heap) : s.vm.findClass "[J" = some (thA θ 102) := va_nm_long (hK.1.2 1 _ (gtys_at 1 rfl)).2
theorem nm_arrS {s : State} (hK : KW θ s s.heap) : s.vm.findClass "[S" = some (thA θ 106) := va_nm_short (hK.1.2 5 _ (gtys_at 5 rfl)).2
/-- a field that isn't lasting in any lasting cell of its shape -/
def gFree (c j : Nat) : Bool := (List.range 201).all fun k => !(gS[k]? == some c) || gFa k j == none
theorem noFin (hX : LX θ) {st : St} (hs : SP θ st) {a c j : Nat} (hc : gFree c j = true) (h0 : c ≠ 0) (e : sh st a = c) : thF θ a j = none := by
  refine LX_N hX ?_
  by_cases hk : a < 201
  · have h1 := List.all_eq_true.mp hc a (List.mem_range.mpr hk)
    simp only [Bool.or_eq_true, Bool.not_eq_true', beq_eq_false_iff_ne, beq_iff_eq] at h1
    rcases h1 with h1 | h1
    · exfalso
      have hg : ∃ c2, gS[a]? = some c2 := by
        have : gS.length = 201 := by decide +kernel
        exact ⟨_, List.getElem?_eq_getElem (by omega)⟩
      obtain ⟨c2, hg⟩ := hg
      have h2 : thS θ a = c2 := LX_S hX hg
      have h3 : c2 ≠ 0 := by
        have h4 := all_lt (n := 201) (P := fun a => gS[a]? ≠ some 0) (by decide +kernel) hk
        rintro rfl
        exact h4 hg
      have h4 := (hs a (by rw [h2]; exact h3)).2.1
      rw [h2, e] at h4
      exact h1 (by rw [hg, h4])
    · exact h1
  · have e2 : gF[a]? = none := List.getElem?_eq_none (by have : gF.length = 201 := (by decide +kernel); omega)
    simp [gFa, e2]
theorem X_putRG (C : Cx θ κ y cc nL ret hh d) (hX : LX θ) {ci j idx : Nat} {q : vw_C} (hc : gcl[ci]? = some q) (hj : j < q.2.2) {ref : String} (hlink : (Cond.fieldLink y.cls idx ref (q.2.1 j).2.1 (q.2.1 j).2.2.1) ∈ lw_all) (hsame : ref = (q.2.1 j).1) (hfin : (q.2.1 j).2.2.2 = false) (dg : decode cc pc = .ok (.putfield idx, 3)) {a : Nat} (ha : a < gBIG) (hsh : sh st a = ci + 1) (hns : gFree (ci + 1) j = true) {v : Option Nat} (ht : (∃ n, gty ci j = .object n) ∨ ∃ t, gty ci j = .array t) (k : X θ κ Φ (putR st a j v) (pc + 3) lo stk) : X θ κ Φ st pc lo (rv θ v :: .ref (ad θ a) :: stk) := X_know fun h => X_put C hc hj hlink hsame hfin dg ha hsh (Put_R (by rw [sv_R ht, sR_putR]) (Or.inr (Or.inl (noFin hX h hns (Nat.succ_ne_zero _) hsh)))) (nr_ref ht).1 (nr_ref ht).2 k
theorem X_castN (C : Cx θ κ y cc nL ret hh d) {index : Nat} (dg : decode cc pc = .ok (.checkcast index, 3)) (k : X θ κ Φ st (pc + 3) lo (.null :: stk)) : X θ κ Φ st pc lo (.null :: stk) := by
  obtain ⟨p, l, e, R, s, m, args, below, meth, c, st0⟩ := κ
  obtain ⟨hx, hb, hml, hown, hts, hr, hlk, htb, hK, hW0, hR, hst, hnm2⟩ := C
  intro H locs ls cells slots hW hE hl hS
  exact lv_castN hx hb dg (k H locs ls cells slots hW hE hl hS)
theorem X_instN (C : Cx θ κ y cc nL ret hh d) {index : Nat} (dg : decode cc pc = .ok (.instanceof index, 3)) (k : X θ κ Φ st (pc + 3) lo (.int 0 :: stk)) : X θ κ Φ st pc lo (.null :: stk) := by
  obtain ⟨p, l, e, R, s, m, args, below, meth, c, st0⟩ := κ
  obtain ⟨hx, hb, hml, hown, hts, hr, hlk, htb, hK, hW0, hR, hst, hnm2⟩ := C
  intro H locs ls cells slots hW hE hl hS
  exact lv_instN hx hb dg (k H locs ls cells slots hW hE hl hS)
theorem X_aaldD (C : Cx θ κ y cc nL ret hh d) {t a n j : Nat} {i : Int32} (t0 : Nat) (ht0 : gcodes[t0]? = some t) (hsh : sh st a = t) (h110 : 110 ≤ t) (hty : (acomp t).isReference = true) (hlen : ln st a = n) (hin : vp_in i n) (hj : i.toNatClampNeg = j) (hv : sv θ st (acomp t) a j = rv θ (sR st a j)) (dg : decode cc pc = .ok (.aaload, 1)) (k : X θ κ Φ st (pc + 1) lo (rv θ (sR st a j) :: stk)) : X θ κ Φ st pc lo (.int i :: .ref (ad θ a) :: stk) := by
  subst hj
  refine X_aald C t0 ht0 hsh h110 hty (by rw [hlen]; exact hin) dg ?_
  rw [hv]
  exact k
/-- a Node into an array of Nodes -/
theorem X_aastD (C : Cx θ κ y cc nL ret hh d) (hX : LX θ) {a n j b : Nat} {i : Int32} (ha : a < gBIG) (hsh : sh st a = 116) (hlen : ln st a = n) (hin : vp_in i n) (hj : i.toNatClampNeg = j) (hb9 : sh st b = 8) (dg : decode cc pc = .ok (.aastore, 1)) (k : X θ κ Φ (putR st a j (some b)) (pc + 1) lo stk) : X θ κ Φ st pc lo (.ref (ad θ b) :: .int i :: .ref (ad θ a) :: stk) := by
  subst hj
  obtain ⟨p, l, e, R, s, m, args, below, meth, c, st0⟩ := κ
  obtain ⟨hx, hb, hml, hown, hts, hr, hlk, htb, hK, hW0, hR, hst, hnm2⟩ := C
  intro H locs ls cells slots hW hE hl hS
  have q1 := cell_arr hW ha hsh (Nat.le_of_ble_eq_true rfl)
  rw [ad_lo ha] at q1
  obtain ⟨cellV, g1, g2, g3, -⟩ := cell_objW hW (ci := 7) (q := (RX7, TX7, 4)) rfl hb9
  have hcls := (hK.1.1 7 _ rfl).2
  obtain ⟨kA, comp, k1, k2, k3, -⟩ := (hK.1.2 11 _ (gtys_at 11 rfl)).2
  have hcomp : comp = (thD θ).1 7 := Option.some.inj (k3.symm.trans hcls.1)
  subst hcomp
  obtain ⟨kC, hkC, -⟩ := hcls.2
  have h0 : ¬ i < 0 := fun q => hin (Or.inl q)
  have hlt : i.toNatClampNeg < ln st a := by rw [hlen]; exact Nat.not_le.mp fun q => hin (Or.inr q)
  refine W.aast hx hb q1 (fun q h => by cases h) (fun h => by cases h) k1 k2 rfl hkC ⟨h0, by rw [arrV_size]; exact hlt⟩ g1 (fun q h => by have g9 := g3.2; rw [h] at g9; cases g9) (by rw [g2]; exact hkC) (by rw [g2]; exact va_assign hcls) rfl (by rw [ad_lo ha]) dg fun H1 e1 e2 e3 => ?_
  have hp : Put θ st (putR st a i.toNatClampNeg (some b)) (acomp 116) a i.toNatClampNeg (rv θ (some b)) := Put_R (by simp [acomp, sv, putR, sR]) (Or.inl (noStat hX hW.2.2.2.2.2.2.1 (by decide) hsh))
  have hp9 := hp
  obtain ⟨f1, f2, f3, f4, f5, f6, f7, f8⟩ := hp9
  exact k H1 _ ls cells slots (Wd_put hW ha (by rw [hsh]; exact Nat.succ_ne_zero _) f1 f2 f3 f4 f5 (f8 hW.2.2.2.2.2.2.1) e2 e3 q1 e1 (by simp [Cell.setSlot]) (ast_cell hsh (Nat.le_of_ble_eq_true rfl) hp)) (Ext_tr hE (Ext_of f1 f3 f4)) hl (hS.put e2 e3 (Nat.le_add_right _ _))
/-- what a copy leaves -/
def cpI (st : St) (a sp b dp n : Nat) : St := (sN st, sS st, sh st, ln st, fun k i => if k = b ∧ dp ≤ i ∧ i < dp + n then sI st a (sp + (i - dp)) else sI st k i, sL st, sR st)
theorem Ext_cpI {st : St} {a sp b dp n : Nat} : Ext st (cpI st a sp b dp n) := Ext_of rfl rfl rfl
theorem sv_cpI {st : St} {a sp b dp n k : Nat} (hk : k ≠ b) (ty : FieldType) (i : Nat) : sv θ (cpI st a sp b dp n) ty k i = sv θ st ty k i := by
  cases ty <;> simp [sv, cpI, sI, sL, sR, hk]
theorem X_copy (C : Cx θ κ y cc nL ret hh d) {t a b n0 n1 index : Nat} (t0 : Nat) (ht0 : gcodes[t0]? = some t) (h100 : 100 ≤ t) (hprim : refKind (acomp t) = false) (hI : ∀ (st : St) k j, sv θ st (acomp t) k j = .int (sI st k j)) (hb0 : b < gBIG) (ha1 : sh st a = t) (ha2 : ln st a = n0) (hb1 : sh st b = t) (hb2 : ln st b = n1) {sp dp n : Int32} (h1 : ¬ sp < 0) (h2 : ¬ dp < 0) (h3 : ¬ n < 0) (h4 : sp.toNatClampNeg + n.toNatClampNeg ≤ n0) (h5 : dp.toNatClampNeg + n.toNatClampNeg ≤ n1) (hfit : ∀ i, i < n.toNatClampNeg → fits (acomp t) (.int (sI st a (sp.toNatClampNeg + i))) = true)
    (hlink : Cond.methodLink y.cls index arraycopyName ∈ lw_all) (hnat : Cond.native arraycopyName ∈ lw_all) (hstat : Cond.static arraycopyName ∈ lw_all) (hini : Cond.initialized "java/lang/System" ∈ lw_all) (hrest : (stk.map fun v => v.category).sum ≤ 8) (dg : decode cc pc = .ok (.invokestatic index, 3)) (kk : X θ κ Φ (cpI st a sp.toNatClampNeg b dp.toNatClampNeg n.toNatClampNeg) (pc + 3) lo stk) : X θ κ Φ st pc lo (.int n :: .int dp :: .ref (ad θ b) :: .int sp :: .ref (ad θ a) :: stk) := by
  obtain ⟨p, l, e, R, s, m, args, below, meth, c, st0⟩ := κ
  obtain ⟨hx, hb, hml, hown, hts, hr, hlk, htb, hK, hW0, hR, hst, hnm2⟩ := C
  intro H locs ls cells slots hW hE hl hS
  have nn : ∀ z : Int32, ¬ z < 0 → z.toInt = (z.toNatClampNeg : Int) := by
    intro z hz
    have hz0 : (0 : Int) ≤ z.toInt := by
      have := Int32.not_lt.mp hz
      simpa using Int32.le_iff_toInt_le.mp this
    show z.toInt = ((z.toInt.toNat : Nat) : Int)
    omega
  have eI : ∀ k, (fun j => sv θ st (acomp t) k j) = fun j => Value.int (sI st k j) := fun k => funext fun j => hI st k j
  intro T hT X
  obtain ⟨c9, hc0, w2, w3, w4, w5⟩ := cell_arrW hW ha1 h100
  rw [ha2] at w3
  have hc1 : H[thb θ + b]? = some (arrV (thA θ t) n1 (fun j => .int (sI st b j))) := by rw [← eI, ← hb2, ← ad_lo hb0]; exact cell_arr hW hb0 hb1 h100
  obtain ⟨-, k0, hk0, cm0, hkk0⟩ := (hK.1.2 t0 _ (gtys_at t0 ht0)).1 n0 (fun j => .int (sI st a j))
  obtain ⟨-, k1, hk1, cm1, hkk1⟩ := (hK.1.2 t0 _ (gtys_at t0 ht0)).1 n1 (fun j => .int (sI st b j))
  have hfr : 1 ≤ R.frames := by subst hR; show 1 ≤ d + 20; omega
  have hlo9 : (stk.map fun v => v.category).sum + (nativeFrameWords "java/lang/System" "arraycopy" 5 + 11) ≤ R.locals := by
    subst hR
    have e9 : nativeFrameWords "java/lang/System" "arraycopy" 5 ≤ 1000 := by decide +kernel
    show _ ≤ 60 * d + 10600
    omega
  rw [ad_lo hb0]
  obtain ⟨vm', X', step⟩ := X.arraycopy hx hown (hts _ hlink) (hts _ hnat) (hts _ hstat) (hts _ hini) (src := ad θ a) (dst := thb θ + b) (cs := c9) (cd := arrV (thA θ t) n1 (fun j => .int (sI st b j))) (srcPos := sp) (destPos := dp) (n := n) (by rw [hT]; exact hc0) (by rw [hT]; exact hc1)
    (fun _ h => by rw [h] at w5; cases w5) (fun _ h => by cases h) w4 (fun h => by cases h) (by rw [w2]; exact hk0) hk1 hkk0 hkk1 (by simp [hprim]) h1 h2 h3
    (by have w9 := w3.2.2.1; rw [nn sp h1, nn n h3]; omega)
    (by rw [nn dp h2, nn n h3, arrV_size]; omega)
    (fun vm₁ _ i hi => by
      have e9 : c9.slots.getD (sp.toNatClampNeg + i) .null = .int (sI st a (sp.toNatClampNeg + i)) := by
        rw [Array.getD_eq_getD_getElem?, w3.1 _ (by omega), hI]
        rfl
      refine ⟨?_, ?_⟩
      · rw [e9]
        exact hfit i hi
      · rw [e9]
        exact trivial)
    (g := F0 m pc ls (.int n :: .int dp :: .ref (thb θ + b) :: .int sp :: .ref (ad θ a) :: stk)) rfl hl.1 (rest := stk) rfl (by rw [hb]; exact dg) hfr (by show 2 * 0 + _ + _ ≤ _; omega)
  have e1 : copied c9 (arrV (thA θ t) n1 (fun j => Value.int (sI st b j))) sp dp n = arrV (thA θ t) n1 (fun j => .int (va_cpy (sI st a) (sI st b) sp.toNatClampNeg dp.toNatClampNeg n.toNatClampNeg j)) := by
    have e8 : copied c9 (arrV (thA θ t) n1 (fun j => Value.int (sI st b j))) sp dp n = copied (arrV (thA θ t) n0 (fun j => Value.int (sI st a j))) (arrV (thA θ t) n1 (fun j => Value.int (sI st b j))) sp dp n := by
      unfold copied Cell.stretch
      refine congrArg _ (List.map_congr_left (fun i hi => ?_))
      have hi := List.mem_range.mp hi
      rw [Array.getD_eq_getD_getElem?, Array.getD_eq_getD_getElem?, w3.1 _ (by omega), arrV_read _ _ (by omega), hI]
    rw [e8]
    exact va_copied (fun z => .int z) _ _ (sI st a) (sI st b) h4
  rw [e1] at X' step
  have hl9 : thb θ + b < H.size := (Array.getElem?_eq_some_iff.mp hc1).1
  obtain ⟨t9, a1, b1⟩ := kk (H.setIfInBounds (thb θ + b) (arrV (thA θ t) n1 (fun j => .int (va_cpy (sI st a) (sI st b) sp.toNatClampNeg dp.toNatClampNeg n.toNatClampNeg j)))) _ ls cells slots (Wd_put hW hb0 (by rw [hb1]; omega) rfl rfl rfl rfl (fun k hk i => by simp [cpI, sI, sL, sR, hk]) (SP_keep hW.2.2.2.2.2.2.1 rfl rfl rfl) (by simp) (fun q hq => by simp [Array.getElem?_setIfInBounds, Ne.symm hq]) hc1 (by simp [Array.getElem?_setIfInBounds, hl9]; rfl) (by rw [arrV_size, arrV_size]) ⟨fun h => by
        have h9 : sh st b < 100 := h
        omega, fun _ => by
        show arrV (thA θ t) n1 _ = arrV (thA θ (sh st b)) (ln st b) (fun j => sv θ (cpI st a sp.toNatClampNeg b dp.toNatClampNeg n.toNatClampNeg) (acomp (sh st b)) b j)
        rw [hb1, hb2]
        congr 1
        funext j
        rw [hI]
        simp [cpI, sI, va_cpy]⟩) (Ext_tr hE Ext_cpI) hl ⟨by simp; exact hS.1, fun q g1 g2 => by
      have hq : q ≠ thb θ + b := fun e9 => g2 (by rw [e9]; exact Nat.le_add_right _ _)
      simp only [Array.getElem?_setIfInBounds, Ne.symm hq, if_false]
      exact hS.2.1 q g1 g2, fun q hq => by
      rcases List.mem_append.mp hq with h | h
      · exact hS.2.2 q h
      · obtain ⟨z, -, hz⟩ := List.mem_map.mp h
        rw [← hz]
        exact Nat.le_add_right _ _⟩ _ (by rw [← hT]; rfl) X'
  exact ⟨t9, step t9 a1, b1⟩
end MORE2
