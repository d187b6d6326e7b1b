/-! MY OWN LAYER, 3: rules of fields, arrays, new cells -/
theorem cell_objW {θ : Th} {st : St} {H : Heap} (hW : Wd θ st H) {ci a : Nat} {q : vw_C} (hc : gcl[ci]? = some q) (hsh : sh st a = ci + 1) : ∃ cell : Cell, H[ad θ a]? = some cell ∧ cell.cls = (thD θ).1 ci ∧ (cell.vm ≠ .unknown ∧ cell.vm.isStatics = false) ∧ ∀ j, j < q.2.2 → cell.slots[(thD θ).2 ci j]? = some (sv θ st (gty ci j) a j) := by
  obtain ⟨-, -, -, -, h5, -⟩ := hW
  obtain ⟨cell, h1, c', ⟨h2, -⟩, -, e2, e3, e4, e5⟩ := h5 a (by rw [hsh]; exact Nat.succ_ne_zero _)
  have hlt := gcl_lt hc
  have h3 := h2 (by omega)
  rw [hsh] at h3
  simp only [Nat.add_sub_cancel] at h3
  obtain ⟨q', g1, g2, g3, g4⟩ := h3
  cases hc.symm.trans g1
  exact ⟨cell, h1, e2.trans g2, ⟨e4, e5⟩, fun j hj => e3.1 _ _ (g4 j hj)⟩
theorem cell_obj {θ : Th} {st : St} {H : Heap} (hW : Wd θ st H) {ci a : Nat} {q : vw_C} (hc : gcl[ci]? = some q) (hsh : sh st a = ci + 1) (hb : a < gBIG ∨ ci ≠ 9) : ∃ cell : Cell, H[ad θ a]? = some cell ∧ cell.cls = (thD θ).1 ci ∧ cell.vm = .none ∧ ∀ j, j < q.2.2 → cell.slots[(thD θ).2 ci j]? = some (sv θ st (gty ci j) a j) := by
  obtain ⟨-, -, -, -, h5, -⟩ := hW
  have hlt := gcl_lt hc
  obtain ⟨cell, h1, c', ⟨h2, -⟩, e1, e2, e3, e4, e5⟩ := h5 a (by rw [hsh]; exact Nat.succ_ne_zero _)
  have e6 := e1 (by
    rcases hb with hb | hb
    · exact Or.inl hb
    · exact Or.inr ⟨by omega, by omega⟩)
  subst e6
  have h3 := h2 (by omega)
  rw [hsh] at h3
  simp only [Nat.add_sub_cancel] at h3
  obtain ⟨q', g1, g2, g3, g4⟩ := h3
  cases hc.symm.trans g1
  exact ⟨cell, h1, g2, g3, g4⟩
theorem cell_arrW {θ : Th} {st : St} {H : Heap} (hW : Wd θ st H) {t a : Nat} (hsh : sh st a = t) (ht : 100 ≤ t) : ∃ c : Cell, H[ad θ a]? = some c ∧ c.cls = thA θ t ∧ ((∀ j, j < ln st a → c.slots[j]? = some (sv θ st (acomp t) a j)) ∧ c.slots.size.toInt32 = Int32.ofNat (ln st a) ∧ ln st a ≤ c.slots.size ∧ (gBIG ≤ a → ln st a < 2 ^ 31)) ∧ c.vm ≠ .unknown ∧ c.vm.isStatics = false := by
  obtain ⟨-, -, -, -, h5, -⟩ := hW
  obtain ⟨cell, h1, c', ⟨-, h2⟩, -, e2, ⟨e3, e6, e7⟩, e4, e5⟩ := h5 a (by rw [hsh]; omega)
  have h3 := h2 (by rw [hsh]; omega)
  rw [hsh] at h3
  rw [hsh] at e7
  have e7 := fun h => e7 h ht
  rw [h3] at e2 e3 e6 e7
  rw [arrV_size] at e6 e7
  have h8 : ∀ j, j < ln st a → cell.slots[j]? = some (sv θ st (acomp t) a j) := fun j hj => e3 j _ (arrV_read _ _ hj)
  refine ⟨cell, h1, e2, ⟨h8, e6, ?_, e7⟩, e4, e5⟩
  rcases Nat.eq_zero_or_pos (ln st a) with h9 | h9
  · rw [h9]; exact Nat.zero_le _
  · have := (Array.getElem?_eq_some_iff.mp (h8 (ln st a - 1) (by omega))).1
    omega
theorem cell_arr {θ : Th} {st : St} {H : Heap} (hW : Wd θ st H) {t a : Nat} (ha : a < gBIG) (hsh : sh st a = t) (ht : 100 ≤ t) : H[ad θ a]? = some (arrV (thA θ t) (ln st a) (fun j => sv θ st (acomp t) a j)) := by
  obtain ⟨-, -, -, -, h5, -⟩ := hW
  obtain ⟨cell, h1, c', ⟨-, h2⟩, e1, -⟩ := h5 a (by rw [hsh]; omega)
  have h3 := h2 (by rw [hsh]; omega)
  rw [hsh] at h3
  rw [h1, e1 (Or.inl ha), h3]
theorem arrOf_W {U : State} {cA : ClassId} {ty : FieldType} {c : Cell} (h : ArrOfT U cA ty) (e1 : c.cls = cA) (e2 : c.vm.isStatics = false) : U.isArrayOf c ty := by
  obtain ⟨-, k, hk, h2⟩ := h 0 (fun _ => .null)
  refine ⟨fun k9 e => (by rw [e] at e2; cases e2), k, ?_, h2⟩
  rw [e1]; exact hk
theorem sh_static {θ : Th} {st : St} {k c : Nat} (h : SP θ st) (hk : thS θ k = c) (h0 : c ≠ 0) : sh st k = c := (h k (by rw [hk]; exact h0)).2.1.trans hk
theorem lt_static {θ : Th} {st : St} {k c : Nat} (h : SP θ st) (hk : thS θ k = c) (h0 : c ≠ 0) : k < gBIG := (h k (by rw [hk]; exact h0)).1
theorem ln_static {θ : Th} {st : St} {k c n : Nat} (h : SP θ st) (hk : thS θ k = c) (h0 : c ≠ 0) (hn : thL θ k = n) : ln st k = n := (h k (by rw [hk]; exact h0)).2.2.1.trans hn
theorem rf_static {θ : Th} {st : St} {k c j a : Nat} (h : SP θ st) (hk : thS θ k = c) (h0 : c ≠ 0) (hj : thF θ k j = some a) : sR st k j = some a := (h k (by rw [hk]; exact h0)).2.2.2 j a hj
section HEAP
variable {θ : Th} {κ : Kx} {Φ : Ph} {y : MethodName} {cc : ByteArray} {nL : Nat} {ret : Option FieldType} {hh : List (Nat × Nat × Nat × Nat)} {d : Nat} {st : St} {pc : Nat} {lo : List (Nat × Value)} {stk : List Value}
theorem X_get (C : Cx θ κ y cc nL ret hh d) {ci j idx : Nat} {q : vw_C} (hc : gcl[ci]? = some q) (hj : j < q.2.2) {ref : String} (hlink : (Cond.fieldLink y.cls idx ref (q.2.1 j).2.1 (q.2.1 j).2.2.1) ∈ lw_all) (hsame : ref = (q.2.1 j).1) (dg : decode cc pc = .ok (.getfield idx, 3)) {a : Nat} (hsh : sh st a = ci + 1) {v : Value} (hv : sv θ st (gty ci j) a j = v) (k : X θ κ Φ st (pc + 3) lo (v :: stk)) : X θ κ Φ st pc lo (.ref (ad θ a) :: stk) := by
  obtain ⟨p, l, e, R, s, m, args, below, meth, c, st0⟩ := κ
  obtain ⟨hx, hb, hml, hown, hts, hr, hlk, htb, hK, hW0, hR, hst, hnm⟩ := C
  intro H locs ls cells slots hW hE hl hS
  obtain ⟨cell, q1, q2, q3, q4⟩ := cell_objW hW hc hsh
  subst hsame
  obtain ⟨hSl, hfc, kC, hkC, hkind⟩ := hK.1.1 ci _ hc
  obtain ⟨cf, kf, fi, f, hi, hsl⟩ := hSl j hj
  refine W.getf hx hb hown (hts _ hlink) hi (u_facts hfc hkC (u_lays hts (gin hc) hj) hi).1 q1 q3.1 (v := v) ?_ rfl rfl dg (k H locs ls cells slots hW hE hl hS)
  rw [hsl, q4 j hj, hv]
theorem X_getN (C : Cx θ κ y cc nL ret hh d) {ci j idx : Nat} {q : vw_C} (hc : gcl[ci]? = some q) (hj : j < q.2.2) {ref host : String} (hlink : (Cond.fieldLinkNest y.cls idx ref (q.2.1 j).2.1 (q.2.1 j).2.2.1 host) ∈ lw_tbl) (hsame : ref = (q.2.1 j).1) (dg : decode cc pc = .ok (.getfield idx, 3)) {a : Nat} (hsh : sh st a = ci + 1) {v : Value} (hv : sv θ st (gty ci j) a j = v) (k : X θ κ Φ st (pc + 3) lo (v :: stk)) : X θ κ Φ st pc lo (.ref (ad θ a) :: stk) := by
  obtain ⟨p, l, e, R, s, m, args, below, meth, c, st0⟩ := κ
  obtain ⟨hx, hb, hml, hown, hts, hr, hlk, htb, hK, hW0, hR, hst, hnm⟩ := C
  intro H locs ls cells slots hW hE hl hS
  obtain ⟨cell, q1, q2, q3, q4⟩ := cell_objW hW hc hsh
  subst hsame
  obtain ⟨hSl, hfc, kC, hkC, hkind⟩ := hK.1.1 ci _ hc
  obtain ⟨cf, kf, fi, f, hi, hsl⟩ := hSl j hj
  refine va_Wgetf hx hb hown ((hK.2.1.1 _ hlink rfl).use rfl) hi (u_facts hfc hkC (u_lays hts (gin hc) hj) hi).1 q1 q3.1 (v := v) ?_ rfl rfl dg (k H locs ls cells slots hW hE hl hS)
  rw [hsl, q4 j hj, hv]
/-- a store of the field j of a: what the new store must be -/
def Put (θ : Th) (st st2 : St) (ty : FieldType) (a j : Nat) (v : Value) : Prop := sN st2 = sN st ∧ sS st2 = sS st ∧ sh st2 = sh st ∧ ln st2 = ln st ∧ (∀ k, k ≠ a → ∀ i, sI st2 k i = sI st k i ∧ sL st2 k i = sL st k i ∧ sR st2 k i = sR st k i) ∧ (∀ ty i, i ≠ j → sv θ st2 ty a i = sv θ st ty a i) ∧ sv θ st2 ty a j = v ∧ (SP θ st → SP θ st2)
theorem Put_I {ty : FieldType} {a j : Nat} {v : Int32} (ht : sv θ (putI st a j v) ty a j = .int v) : Put θ st (putI st a j v) ty a j (.int v) := ⟨rfl, rfl, rfl, rfl, fun k hk i => by simp [putI, sI, sL, sR, hk], fun ty i hi => sv_putIj hi ty, ht, fun h => SP_keep h rfl rfl rfl⟩
theorem Put_L {a j : Nat} {v : Int64} : Put θ st (putL st a j v) .long a j (.long v) := ⟨rfl, rfl, rfl, rfl, fun k hk i => by simp [putL, sI, sL, sR, hk], fun ty i hi => sv_putLj hi ty, by simp [sv, putL, sL], fun h => SP_keep h rfl rfl rfl⟩
theorem Put_R {ty : FieldType} {a j : Nat} {v : Option Nat} (ht : sv θ (putR st a j v) ty a j = rv θ v) (hf : thS θ a = 0 ∨ thF θ a j = none ∨ thF θ a j = v) : Put θ st (putR st a j v) ty a j (rv θ v) := ⟨rfl, rfl, rfl, rfl, fun k hk i => by simp [putR, sI, sL, sR, hk], fun ty i hi => sv_putRj hi ty, ht, fun h k hk => by
  obtain ⟨g0, g1, g2, g3⟩ := h k hk
  refine ⟨g0, g1, g2, fun j2 a2 h2 => ?_⟩
  have g4 := g3 j2 a2 h2
  by_cases he : k = a ∧ j2 = j
  · obtain ⟨rfl, rfl⟩ := he
    rcases hf with hf | hf | hf
    · exact absurd hf hk
    · rw [hf] at h2; cases h2
    · rw [← h2, hf]; simp [putR, sR]
  · show (if k = a ∧ j2 = j then v else sR st k j2) = some a2
    rw [if_neg he]; exact g4⟩
theorem sv_I {ty : FieldType} (ht : ty = .int ∨ ty = .boolean ∨ ty = .byte ∨ ty = .char ∨ ty = .short) (a j : Nat) : sv θ st ty a j = .int (sI st a j) := by
  rcases ht with rfl | rfl | rfl | rfl | rfl <;> rfl
theorem sI_putI {a j : Nat} {v : Int32} : sI (putI st a j v) a j = v := by simp [putI, sI]
theorem sL_putL {a j : Nat} {v : Int64} : sL (putL st a j v) a j = v := by simp [putL, sL]
theorem sR_putR {a j : Nat} {v : Option Nat} : sR (putR st a j v) a j = v := by simp [putR, sR]
theorem put_cell {ci a j : Nat} {q : vw_C} {st2 : St} {v : Value} {cell : Cell} {s : State} {args : Array Value} (hts : ∀ w ∈ lw_all, w.before args s = true) (hK : KW θ s s.heap) {own : String} (hc : gcl[ci]? = some q) (hj : j < q.2.2) (hsh : sh st a = ci + 1) (hp : Put θ st st2 (gty ci j) a j v)
    (q2 : cell.cls = (thD θ).1 ci) (q3 : cell.vm = .none) (q4 : ∀ j, j < q.2.2 → cell.slots[(thD θ).2 ci j]? = some (sv θ st (gty ci j) a j)) : cellIs θ st2 a (cell.setSlot ((thD θ).2 ci j) v) ∧ (cell.setSlot ((thD θ).2 ci j) v).slots.size = cell.slots.size := by
  have hap := va_apart (own := own) hts (gin hc) (gty ci) (gtyok hc) (gnm hc) hK.1 hc
  have hlt := gcl_lt hc
  obtain ⟨e1, e2, e3, e4, e5, e6, e7, e8⟩ := hp
  have hsh2 : sh st2 a = ci + 1 := by rw [e3]; exact hsh
  refine ⟨⟨fun _ => ⟨q, ?_, ?_, q3, fun i hi => ?_⟩, fun h => ?_⟩, by simp [Cell.setSlot]⟩
  · rw [hsh2]; simpa using hc
  · rw [hsh2]; simp only [Nat.add_sub_cancel]; exact q2
  · rw [hsh2]
    simp only [Nat.add_sub_cancel]
    by_cases hij : i = j
    · subst hij
      rw [e7]
      have hl : (thD θ).2 ci i < cell.slots.size := k2_hasslot (q4 i hi)
      simp [Cell.setSlot, Array.getElem?_setIfInBounds, hl]
    · rw [e6 _ i hij, slot_ne cell v (hap j i hj hi (Ne.symm hij))]
      exact q4 i hi
  · rw [hsh2] at h; omega
theorem X_put (C : Cx θ κ y cc nL ret hh d) {ci j idx : Nat} {q : vw_C} (hc : gcl[ci]? = some q) (hj : j < q.2.2) {ref : String} (hlink : (Cond.fieldLink y.cls idx ref (q.2.1 j).2.1 (q.2.1 j).2.2.1) ∈ lw_all) (hsame : ref = (q.2.1 j).1) (hfin : (q.2.1 j).2.2.2 = false) (dg : decode cc pc = .ok (.putfield idx, 3)) {a : Nat} (ha : a < gBIG) (hsh : sh st a = ci + 1) {v : Value} {st2 : St} (hp : Put θ st st2 (gty ci j) a j v) (hn : narrow (gty ci j) v = v) (hf : fits (gty ci j) v = true) (k : X θ κ Φ st2 (pc + 3) lo stk) : X θ κ Φ st pc lo (v :: .ref (ad θ a) :: stk) := by
  obtain ⟨p, l, e, R, s, m, args, below, meth, c, st0⟩ := κ
  obtain ⟨hx, hb, hml, hown, hts, hr, hlk, htb, hK, hW0, hR, hst, hnm⟩ := C
  intro H locs ls cells slots hW hE hl hS
  obtain ⟨cell, q1, q2, q3, q4⟩ := cell_obj hW hc hsh (Or.inl ha)
  subst hsame
  obtain ⟨hSl, hfc, kC, hkC, hkind⟩ := hK.1.1 ci _ hc
  obtain ⟨cf, kf, fi, f, hi, hsl⟩ := hSl j hj
  have hlay := hts _ (gin hc _ (u_in_lay hj))
  unfold u_lay at hlay
  rw [if_neg (by rw [hfin]; decide)] at hlay
  have hst9 := (u_facts hfc hkC (u_lays hts (gin hc) hj) hi).1
  have h6 := u_store hfc hkC hkind hlay hi (gtyok hc j hj) hn hf
  obtain ⟨hi2, hz2⟩ := put_cell (own := y.cls) hts hK hc hj hsh hp q2 q3 q4
  rw [ad_lo ha] at q1
  refine W.putK hx hb (f := f) ⟨hown, hts _ hlink, ⟨_, _, _, hi⟩, hst9⟩ (by rw [q2]; exact h6) q1 q3 (by rw [hsl]; exact k2_hasslot (q4 j hj)) rfl (by rw [ad_lo ha]) dg fun H' e1 e2 e3 => ?_
  rw [hsl] at e1 ⊢
  have hp9 := hp
  obtain ⟨f1, f2, f3, f4, f5, f6, f7, f8⟩ := hp9
  exact k H' _ ls cells slots (Wd_put hW ha (by rw [hsh]; exact Nat.succ_ne_zero _) f1 f2 f3 f4 f5 (f8 hW.2.2.2.2.2.2.1) e2 e3 q1 e1 hz2 hi2) (Ext_tr hE (Ext_of f1 f3 f4)) hl (hS.put e2 e3 (Nat.le_add_right _ _))
theorem X_putN (C : Cx θ κ y cc nL ret hh d) {ci j idx : Nat} {q : vw_C} (hc : gcl[ci]? = some q) (hj : j < q.2.2) {ref host : String} (hlink : (Cond.fieldLinkNest y.cls idx ref (q.2.1 j).2.1 (q.2.1 j).2.2.1 host) ∈ lw_tbl) (hsame : ref = (q.2.1 j).1) (hfin : (q.2.1 j).2.2.2 = false) (dg : decode cc pc = .ok (.putfield idx, 3)) {a : Nat} (ha : a < gBIG) (hsh : sh st a = ci + 1) {v : Value} {st2 : St} (hp : Put θ st st2 (gty ci j) a j v) (hn : narrow (gty ci j) v = v) (hf : fits (gty ci j) v = true) (k : X θ κ Φ st2 (pc + 3) lo stk) : X θ κ Φ st pc lo (v :: .ref (ad θ a) :: stk) := by
  obtain ⟨p, l, e, R, s, m, args, below, meth, c, st0⟩ := κ
  obtain ⟨hx, hb, hml, hown, hts, hr, hlk, htb, hK, hW0, hR, hst, hnm⟩ := C
  intro H locs ls cells slots hW hE hl hS
  obtain ⟨cell, q1, q2, q3, q4⟩ := cell_obj hW hc hsh (Or.inl ha)
  subst hsame
  obtain ⟨hSl, hfc, kC, hkC, hkind⟩ := hK.1.1 ci _ hc
  obtain ⟨cf, kf, fi, f, hi, hsl⟩ := hSl j hj
  have hlay := hts _ (gin hc _ (u_in_lay hj))
  unfold u_lay at hlay
  rw [if_neg (by rw [hfin]; decide)] at hlay
  have hst9 := (u_facts hfc hkC (u_lays hts (gin hc) hj) hi).1
  have h6 := u_store hfc hkC hkind hlay hi (gtyok hc j hj) hn hf
  obtain ⟨hi2, hz2⟩ := put_cell (own := y.cls) hts hK hc hj hsh hp q2 q3 q4
  rw [ad_lo ha] at q1
  refine va_WputK hx hb (f := f) hown ((hK.2.1.1 _ hlink rfl).use rfl) hi hst9 (by rw [q2]; exact h6) q1 q3 (by rw [hsl]; exact k2_hasslot (q4 j hj)) rfl (by rw [ad_lo ha]) dg fun H' e1 e2 e3 => ?_
  rw [hsl] at e1 ⊢
  have hp9 := hp
  obtain ⟨f1, f2, f3, f4, f5, f6, f7, f8⟩ := hp9
  exact k H' _ ls cells slots (Wd_put hW ha (by rw [hsh]; exact Nat.succ_ne_zero _) f1 f2 f3 f4 f5 (f8 hW.2.2.2.2.2.2.1) e2 e3 q1 e1 hz2 hi2) (Ext_tr hE (Ext_of f1 f3 f4)) hl (hS.put e2 e3 (Nat.le_add_right _ _))
theorem X_putF (C : Cx θ κ y cc nL ret hh d) (hin : y.name = "<init>") {ci j idx : Nat} {q : vw_C} (hc : gcl[ci]? = some q) (hj : j < q.2.2) {ref : String} (hlink : (Cond.fieldLink y.cls idx ref (q.2.1 j).2.1 (q.2.1 j).2.2.1) ∈ lw_all) (hsame : ref = (q.2.1 j).1) (hfin : (q.2.1 j).2.2.2 = true) (hdecl : (q.2.1 j).1 = y.cls) (dg : decode cc pc = .ok (.putfield idx, 3)) {a : Nat} (ha : a < gBIG) (hsh : sh st a = ci + 1) {v : Value} {st2 : St} (hp : Put θ st st2 (gty ci j) a j v) (hn : narrow (gty ci j) v = v) (hf : fits (gty ci j) v = true) (k : X θ κ Φ st2 (pc + 3) lo stk) : X θ κ Φ st pc lo (v :: .ref (ad θ a) :: stk) := by
  obtain ⟨p, l, e, R, s, m, args, below, meth, c, st0⟩ := κ
  obtain ⟨hx, hb, hml, hown, hts, hr, hlk, htb, hK, hW0, hR, hst, hnm⟩ := C
  intro H locs ls cells slots hW hE hl hS
  obtain ⟨cell, q1, q2, q3, q4⟩ := cell_obj hW hc hsh (Or.inl ha)
  subst hsame
  obtain ⟨hSl, hfc, kC, hkC, hkind⟩ := hK.1.1 ci _ hc
  obtain ⟨cf, kf, fi, f, hi, hsl⟩ := hSl j hj
  have hlay := hts _ (gin hc _ (u_in_lay hj))
  unfold u_lay at hlay
  rw [if_pos hfin] at hlay
  have hst9 := (u_facts hfc hkC (u_lays hts (gin hc) hj) hi).1
  have hcf : m.cls = cf := by
    obtain ⟨_, _, c', _, _, _, -, -, hf', -, -, -, hown2, -⟩ := Cond.laysFinal_spec hlay
    have e1 : c' = cf := by have := hi.symm.trans hf'; simp at this; exact this.1.symm
    rw [hdecl] at hown2
    rw [← e1]; exact Option.some.inj (hown.symm.trans hown2)
  have h6 := u_fits hfc hkC hkind (u_lays hts (gin hc) hj) hi (gtyok hc j hj) hn hf
  obtain ⟨hi2, hz2⟩ := put_cell (own := y.cls) hts hK hc hj hsh hp q2 q3 q4
  rw [ad_lo ha] at q1
  refine W.putFinK hx hb hown (hts _ hlink) (f := f) hi hst9 hcf (by rw [hnm, hin]) (by rw [q2]; exact h6) q1 q3 (by rw [hsl]; exact k2_hasslot (q4 j hj)) rfl (by rw [ad_lo ha]) dg fun H' e1 e2 e3 => ?_
  rw [hsl] at e1 ⊢
  have hp9 := hp
  obtain ⟨f1, f2, f3, f4, f5, f6, f7, f8⟩ := hp9
  exact k H' _ ls cells slots (Wd_put hW ha (by rw [hsh]; exact Nat.succ_ne_zero _) f1 f2 f3 f4 f5 (f8 hW.2.2.2.2.2.2.1) e2 e3 q1 e1 hz2 hi2) (Ext_tr hE (Ext_of f1 f3 f4)) hl (hS.put e2 e3 (Nat.le_add_right _ _))
/-! arrays -/
theorem X_alen (C : Cx θ κ y cc nL ret hh d) {t a : Nat} (t0 : Nat) (ht0 : gcodes[t0]? = some t) (hsh : sh st a = t) (h100 : 100 ≤ t) {v : Int32} (hv : Int32.ofNat (ln st a) = v) (dg : decode cc pc = .ok (.arraylength, 1)) (k : X θ κ Φ st (pc + 1) lo (.int v :: stk)) : X θ κ Φ st pc lo (.ref (ad θ a) :: stk) := by
  obtain ⟨p, l, e, R, s, m, args, below, meth, c, st0⟩ := κ
  obtain ⟨hx, hb, hml, hown, hts, hr, hlk, htb, hK, hW0, hR, hst, hnm⟩ := C
  intro H locs ls cells slots hW hE hl hS
  obtain ⟨c9, w1, w2, w3, w4, w5⟩ := cell_arrW hW hsh h100
  exact W.alen hx hb w1 (arrOf_W (hK.1.2 t0 _ (gtys_at t0 ht0)).1 w2 w5) (w3.2.1.trans hv) rfl rfl dg (k H locs ls cells slots hW hE hl hS)
theorem X_iald (C : Cx θ κ y cc nL ret hh d) {a : Nat} {i : Int32} (hsh : sh st a = 101) (hin : vp_in i (ln st a)) (dg : decode cc pc = .ok (.iaload, 1)) (k : X θ κ Φ st (pc + 1) lo (.int (sI st a i.toNatClampNeg) :: stk)) : X θ κ Φ st pc lo (.int i :: .ref (ad θ a) :: stk) := by
  obtain ⟨p, l, e, R, s, m, args, below, meth, c, st0⟩ := κ
  obtain ⟨hx, hb, hml, hown, hts, hr, hlk, htb, hK, hW0, hR, hst, hnm⟩ := C
  intro H locs ls cells slots hW hE hl hS
  have hlt : i.toNatClampNeg < ln st a := Nat.not_le.mp fun q => hin (Or.inr q)
  obtain ⟨c9, w1, w2, w3, w4, w5⟩ := cell_arrW hW hsh (Nat.le_of_ble_eq_true rfl)
  exact W.iald hx hb w1 (arrOf_W (hK.1.2 0 _ (gtys_at 0 rfl)).1 w2 w5) w4 (fun q => q.elim (fun q => hin (Or.inl q)) (fun q => absurd (Nat.lt_of_lt_of_le hlt w3.2.2.1) (Nat.not_lt.mpr q))) (w3.1 _ hlt) rfl rfl dg (k H locs ls cells slots hW hE hl hS)
theorem X_lald (C : Cx θ κ y cc nL ret hh d) {a : Nat} {i : Int32} (hsh : sh st a = 102) (hin : vp_in i (ln st a)) (dg : decode cc pc = .ok (.laload, 1)) (k : X θ κ Φ st (pc + 1) lo (.long (sL st a i.toNatClampNeg) :: stk)) : X θ κ Φ st pc lo (.int i :: .ref (ad θ a) :: stk) := by
  obtain ⟨p, l, e, R, s, m, args, below, meth, c, st0⟩ := κ
  obtain ⟨hx, hb, hml, hown, hts, hr, hlk, htb, hK, hW0, hR, hst, hnm⟩ := C
  intro H locs ls cells slots hW hE hl hS
  have hlt : i.toNatClampNeg < ln st a := Nat.not_le.mp fun q => hin (Or.inr q)
  obtain ⟨c9, w1, w2, w3, w4, w5⟩ := cell_arrW hW hsh (Nat.le_of_ble_eq_true rfl)
  exact W.lald hx hb w1 (arrOf_W (hK.1.2 1 _ (gtys_at 1 rfl)).1 w2 w5) w4 (fun q => q.elim (fun q => hin (Or.inl q)) (fun q => absurd (Nat.lt_of_lt_of_le hlt w3.2.2.1) (Nat.not_lt.mpr q))) (w3.1 _ hlt) rfl rfl dg (k H locs ls cells slots hW hE hl hS)
theorem X_bald (C : Cx θ κ y cc nL ret hh d) {a : Nat} {i : Int32} (hsh : sh st a = 103) (hin : vp_in i (ln st a)) (dg : decode cc pc = .ok (.baload, 1)) (k : X θ κ Φ st (pc + 1) lo (.int (sI st a i.toNatClampNeg) :: stk)) : X θ κ Φ st pc lo (.int i :: .ref (ad θ a) :: stk) := by
  obtain ⟨p, l, e, R, s, m, args, below, meth, c, st0⟩ := κ
  obtain ⟨hx, hb, hml, hown, hts, hr, hlk, htb, hK, hW0, hR, hst, hnm⟩ := C
  intro H locs ls cells slots hW hE hl hS
  have hlt : i.toNatClampNeg < ln st a := Nat.not_le.mp fun q => hin (Or.inr q)
  obtain ⟨c9, w1, w2, w3, w4, w5⟩ := cell_arrW hW hsh (Nat.le_of_ble_eq_true rfl)
  exact W.bald hx hb w1 (arrOf_W (hK.1.2 2 _ (gtys_at 2 rfl)).1 w2 w5) w4 (fun q => q.elim (fun q => hin (Or.inl q)) (fun q => absurd (Nat.lt_of_lt_of_le hlt w3.2.2.1) (Nat.not_lt.mpr q))) (w3.1 _ hlt) rfl rfl dg (k H locs ls cells slots hW hE hl hS)
theorem X_zald (C : Cx θ κ y cc nL ret hh d) {a : Nat} {i : Int32} (hsh : sh st a = 104) (hin : vp_in i (ln st a)) (dg : decode cc pc = .ok (.baload, 1)) (k : X θ κ Φ st (pc + 1) lo (.int (sI st a i.toNatClampNeg) :: stk)) : X θ κ Φ st pc lo (.int i :: .ref (ad θ a) :: stk) := by
  obtain ⟨p, l, e, R, s, m, args, below, meth, c, st0⟩ := κ
  obtain ⟨hx, hb, hml, hown, hts, hr, hlk, htb, hK, hW0, hR, hst, hnm⟩ := C
  intro H locs ls cells slots hW hE hl hS
  have hlt : i.toNatClampNeg < ln st a := Nat.not_le.mp fun q => hin (Or.inr q)
  obtain ⟨c9, w1, w2, w3, w4, w5⟩ := cell_arrW hW hsh (Nat.le_of_ble_eq_true rfl)
  exact W.zald hx hb w1 (arrOf_W (hK.1.2 3 _ (gtys_at 3 rfl)).1 w2 w5) w4 (fun q => q.elim (fun q => hin (Or.inl q)) (fun q => absurd (Nat.lt_of_lt_of_le hlt w3.2.2.1) (Nat.not_lt.mpr q))) (w3.1 _ hlt) rfl rfl dg (k H locs ls cells slots hW hE hl hS)
theorem X_cald (C : Cx θ κ y cc nL ret hh d) {a : Nat} {i : Int32} (hsh : sh st a = 105) (hin : vp_in i (ln st a)) (dg : decode cc pc = .ok (.caload, 1)) (k : X θ κ Φ st (pc + 1) lo (.int (sI st a i.toNatClampNeg) :: stk)) : X θ κ Φ st pc lo (.int i :: .ref (ad θ a) :: stk) := by
  obtain ⟨p, l, e, R, s, m, args, below, meth, c, st0⟩ := κ
  obtain ⟨hx, hb, hml, hown, hts, hr, hlk, htb, hK, hW0, hR, hst, hnm⟩ := C
  intro H locs ls cells slots hW hE hl hS
  have hlt : i.toNatClampNeg < ln st a := Nat.not_le.mp fun q => hin (Or.inr q)
  obtain ⟨c9, w1, w2, w3, w4, w5⟩ := cell_arrW hW hsh (Nat.le_of_ble_eq_true rfl)
  exact W.cald hx hb w1 (arrOf_W (hK.1.2 4 _ (gtys_at 4 rfl)).1 w2 w5) w4 (fun q => q.elim (fun q => hin (Or.inl q)) (fun q => absurd (Nat.lt_of_lt_of_le hlt w3.2.2.1) (Nat.not_lt.mpr q))) (w3.1 _ hlt) rfl rfl dg (k H locs ls cells slots hW hE hl hS)
theorem X_sald (C : Cx θ κ y cc nL ret hh d) {a : Nat} {i : Int32} (hsh : sh st a = 106) (hin : vp_in i (ln st a)) (dg : decode cc pc = .ok (.saload, 1)) (k : X θ κ Φ st (pc + 1) lo (.int (sI st a i.toNatClampNeg) :: stk)) : X θ κ Φ st pc lo (.int i :: .ref (ad θ a) :: stk) := by
  obtain ⟨p, l, e, R, s, m, args, below, meth, c, st0⟩ := κ
  obtain ⟨hx, hb, hml, hown, hts, hr, hlk, htb, hK, hW0, hR, hst, hnm⟩ := C
  intro H locs ls cells slots hW hE hl hS
  have hlt : i.toNatClampNeg < ln st a := Nat.not_le.mp fun q => hin (Or.inr q)
  obtain ⟨c9, w1, w2, w3, w4, w5⟩ := cell_arrW hW hsh (Nat.le_of_ble_eq_true rfl)
  exact W.sald hx hb w1 (arrOf_W (hK.1.2 5 _ (gtys_at 5 rfl)).1 w2 w5) w4 (fun q => q.elim (fun q => hin (Or.inl q)) (fun q => absurd (Nat.lt_of_lt_of_le hlt w3.2.2.1) (Nat.not_lt.mpr q))) (w3.1 _ hlt) rfl rfl dg (k H locs ls cells slots hW hE hl hS)
theorem X_aald (C : Cx θ κ y cc nL ret hh d) {t a : Nat} {i : Int32} (t0 : Nat) (ht0 : gcodes[t0]? = some t) (hsh : sh st a = t) (h110 : 110 ≤ t) (hty : (acomp t).isReference = true) (hin : vp_in i (ln st a)) (dg : decode cc pc = .ok (.aaload, 1)) (k : X θ κ Φ st (pc + 1) lo (sv θ st (acomp t) a i.toNatClampNeg :: stk)) : X θ κ Φ st pc lo (.int i :: .ref (ad θ a) :: stk) := by
  obtain ⟨p, l, e, R, s, m, args, below, meth, c, st0⟩ := κ
  obtain ⟨hx, hb, hml, hown, hts, hr, hlk, htb, hK, hW0, hR, hst, hnm⟩ := C
  intro H locs ls cells slots hW hE hl hS
  have hlt : i.toNatClampNeg < ln st a := Nat.not_le.mp fun q => hin (Or.inr q)
  obtain ⟨c9, w1, w2, w3, w4, w5⟩ := cell_arrW hW hsh (by omega)
  exact W.aald hx hb w1 (arrOf_W (hK.1.2 t0 _ (gtys_at t0 ht0)).1 w2 w5) hty w4 (fun q => q.elim (fun q => hin (Or.inl q)) (fun q => absurd (Nat.lt_of_lt_of_le hlt w3.2.2.1) (Nat.not_lt.mpr q))) (w3.1 _ hlt) rfl rfl dg (k H locs ls cells slots hW hE hl hS)
theorem ast_cell {t a j : Nat} {st2 : St} {v : Value} (hsh : sh st a = t) (h100 : 100 ≤ t) (hp : Put θ st st2 (acomp t) a j v) : cellIs θ st2 a ((arrV (thA θ t) (ln st a) (fun j => sv θ st (acomp t) a j)).setSlot j v) := by
  obtain ⟨e1, e2, e3, e4, e5, e6, e7, e8⟩ := hp
  refine ⟨fun h => ?_, fun _ => ?_⟩
  · rw [e3, hsh] at h; omega
  · rw [arrV_store, e3, e4, hsh]
    congr 1
    funext i
    by_cases hij : i = j
    · subst hij; simp [updV, e7]
    · simp [updV, hij, e6 _ i hij]
theorem X_iast (C : Cx θ κ y cc nL ret hh d) {a : Nat} {i : Int32} {x : Int32} (ha : a < gBIG) (hsh : sh st a = 101) (hin : vp_in i (ln st a)) (dg : decode cc pc = .ok (.iastore, 1)) (k : X θ κ Φ (putI st a i.toNatClampNeg x) (pc + 1) lo stk) : X θ κ Φ st pc lo (.int x :: .int i :: .ref (ad θ a) :: stk) := by
  obtain ⟨p, l, e, R, s, m, args, below, meth, c, st0⟩ := κ
  obtain ⟨hx, hb, hml, hown, hts, hr, hlk, htb, hK, hW0, hR, hst, hnm⟩ := C
  intro H locs ls cells slots hW hE hl hS
  have q1 := cell_arr hW ha hsh (Nat.le_of_ble_eq_true rfl)
  rw [ad_lo ha] at q1
  refine W.iast hx hb q1 ((hK.1.2 0 _ (gtys_at 0 rfl)).1 _ _) (fun h => by cases h) (by rw [arrV_size]; exact hin) rfl (by rw [ad_lo ha]) dg fun H' e1 e2 e3 => ?_
  have hp : Put θ st (putI st a i.toNatClampNeg x) (acomp 101) a i.toNatClampNeg (.int x) := Put_I (by rw [sv_I (by simp [acomp]), sI_putI])
  have hp9 := hp
  obtain ⟨f1, f2, f3, f4, f5, f6, f7, f8⟩ := hp9
  exact k H' _ ls cells slots (Wd_put hW ha (by rw [hsh]; exact Nat.succ_ne_zero _) f1 f2 f3 f4 f5 (f8 hW.2.2.2.2.2.2.1) e2 e3 q1 e1 (by simp [Cell.setSlot]) (ast_cell hsh (Nat.le_of_ble_eq_true rfl) hp)) (Ext_tr hE (Ext_of f1 f3 f4)) hl (hS.put e2 e3 (Nat.le_add_right _ _))
theorem X_last (C : Cx θ κ y cc nL ret hh d) {a : Nat} {i : Int32} {x : Int64} (ha : a < gBIG) (hsh : sh st a = 102) (hin : vp_in i (ln st a)) (dg : decode cc pc = .ok (.lastore, 1)) (k : X θ κ Φ (putL st a i.toNatClampNeg x) (pc + 1) lo stk) : X θ κ Φ st pc lo (.long x :: .int i :: .ref (ad θ a) :: stk) := by
  obtain ⟨p, l, e, R, s, m, args, below, meth, c, st0⟩ := κ
  obtain ⟨hx, hb, hml, hown, hts, hr, hlk, htb, hK, hW0, hR, hst, hnm⟩ := C
  intro H locs ls cells slots hW hE hl hS
  have q1 := cell_arr hW ha hsh (Nat.le_of_ble_eq_true rfl)
  rw [ad_lo ha] at q1
  refine W.last hx hb q1 ((hK.1.2 1 _ (gtys_at 1 rfl)).1 _ _) (fun h => by cases h) (by rw [arrV_size]; exact hin) rfl (by rw [ad_lo ha]) dg fun H' e1 e2 e3 => ?_
  have hp : Put θ st (putL st a i.toNatClampNeg x) (acomp 102) a i.toNatClampNeg (.long x) := Put_L
  have hp9 := hp
  obtain ⟨f1, f2, f3, f4, f5, f6, f7, f8⟩ := hp9
  exact k H' _ ls cells slots (Wd_put hW ha (by rw [hsh]; exact Nat.succ_ne_zero _) f1 f2 f3 f4 f5 (f8 hW.2.2.2.2.2.2.1) e2 e3 q1 e1 (by simp [Cell.setSlot]) (ast_cell hsh (Nat.le_of_ble_eq_true rfl) hp)) (Ext_tr hE (Ext_of f1 f3 f4)) hl (hS.put e2 e3 (Nat.le_add_right _ _))
theorem X_bast (C : Cx θ κ y cc nL ret hh d) {a : Nat} {i : Int32} {x : Int32} (ha : a < gBIG) (hsh : sh st a = 103) (hin : vp_in i (ln st a)) (dg : decode cc pc = .ok (.bastore, 1)) (k : X θ κ Φ (putI st a i.toNatClampNeg (x.toInt8.toInt32)) (pc + 1) lo stk) : X θ κ Φ st pc lo (.int x :: .int i :: .ref (ad θ a) :: stk) := by
  obtain ⟨p, l, e, R, s, m, args, below, meth, c, st0⟩ := κ
  obtain ⟨hx, hb, hml, hown, hts, hr, hlk, htb, hK, hW0, hR, hst, hnm⟩ := C
  intro H locs ls cells slots hW hE hl hS
  have q1 := cell_arr hW ha hsh (Nat.le_of_ble_eq_true rfl)
  rw [ad_lo ha] at q1
  refine W.bast hx hb q1 ((hK.1.2 2 _ (gtys_at 2 rfl)).1 _ _) (fun h => by cases h) (by rw [arrV_size]; exact hin) rfl (by rw [ad_lo ha]) dg fun H' e1 e2 e3 => ?_
  have hp : Put θ st (putI st a i.toNatClampNeg (x.toInt8.toInt32)) (acomp 103) a i.toNatClampNeg (.int (x.toInt8.toInt32)) := Put_I (by rw [sv_I (by simp [acomp]), sI_putI])
  have hp9 := hp
  obtain ⟨f1, f2, f3, f4, f5, f6, f7, f8⟩ := hp9
  exact k H' _ ls cells slots (Wd_put hW ha (by rw [hsh]; exact Nat.succ_ne_zero _) f1 f2 f3 f4 f5 (f8 hW.2.2.2.2.2.2.1) e2 e3 q1 e1 (by simp [Cell.setSlot]) (ast_cell hsh (Nat.le_of_ble_eq_true rfl) hp)) (Ext_tr hE (Ext_of f1 f3 f4)) hl (hS.put e2 e3 (Nat.le_add_right _ _))
theorem X_sast (C : Cx θ κ y cc nL ret hh d) {a : Nat} {i : Int32} {x : Int32} (ha : a < gBIG) (hsh : sh st a = 106) (hin : vp_in i (ln st a)) (dg : decode cc pc = .ok (.sastore, 1)) (k : X θ κ Φ (putI st a i.toNatClampNeg (x.toInt16.toInt32)) (pc + 1) lo stk) : X θ κ Φ st pc lo (.int x :: .int i :: .ref (ad θ a) :: stk) := by
  obtain ⟨p, l, e, R, s, m, args, below, meth, c, st0⟩ := κ
  obtain ⟨hx, hb, hml, hown, hts, hr, hlk, htb, hK, hW0, hR, hst, hnm⟩ := C
  intro H locs ls cells slots hW hE hl hS
  have q1 := cell_arr hW ha hsh (Nat.le_of_ble_eq_true rfl)
  rw [ad_lo ha] at q1
  refine W.sast hx hb q1 ((hK.1.2 5 _ (gtys_at 5 rfl)).1 _ _) (fun h => by cases h) (by rw [arrV_size]; exact hin) rfl (by rw [ad_lo ha]) dg fun H' e1 e2 e3 => ?_
  have hp : Put θ st (putI st a i.toNatClampNeg (x.toInt16.toInt32)) (acomp 106) a i.toNatClampNeg (.int (x.toInt16.toInt32)) := Put_I (by rw [sv_I (by simp [acomp]), sI_putI])
  have hp9 := hp
  obtain ⟨f1, f2, f3, f4, f5, f6, f7, f8⟩ := hp9
  exact k H' _ ls cells slots (Wd_put hW ha (by rw [hsh]; exact Nat.succ_ne_zero _) f1 f2 f3 f4 f5 (f8 hW.2.2.2.2.2.2.1) e2 e3 q1 e1 (by simp [Cell.setSlot]) (ast_cell hsh (Nat.le_of_ble_eq_true rfl) hp)) (Ext_tr hE (Ext_of f1 f3 f4)) hl (hS.put e2 e3 (Nat.le_add_right _ _))
theorem X_cast (C : Cx θ κ y cc nL ret hh d) {a : Nat} {i : Int32} {x : Int32} (ha : a < gBIG) (hsh : sh st a = 105) (hin : vp_in i (ln st a)) (dg : decode cc pc = .ok (.castore, 1)) (k : X θ κ Φ (putI st a i.toNatClampNeg ((x.toUInt32 % 65536).toInt32)) (pc + 1) lo stk) : X θ κ Φ st pc lo (.int x :: .int i :: .ref (ad θ a) :: stk) := by
  obtain ⟨p, l, e, R, s, m, args, below, meth, c, st0⟩ := κ
  obtain ⟨hx, hb, hml, hown, hts, hr, hlk, htb, hK, hW0, hR, hst, hnm⟩ := C
  intro H locs ls cells slots hW hE hl hS
  have q1 := cell_arr hW ha hsh (Nat.le_of_ble_eq_true rfl)
  rw [ad_lo ha] at q1
  refine W.cast hx hb q1 ((hK.1.2 4 _ (gtys_at 4 rfl)).1 _ _) (fun h => by cases h) (by rw [arrV_size]; exact hin) rfl (by rw [ad_lo ha]) dg fun H' e1 e2 e3 => ?_
  have hp : Put θ st (putI st a i.toNatClampNeg ((x.toUInt32 % 65536).toInt32)) (acomp 105) a i.toNatClampNeg (.int ((x.toUInt32 % 65536).toInt32)) := Put_I (by rw [sv_I (by simp [acomp]), sI_putI])
  have hp9 := hp
  obtain ⟨f1, f2, f3, f4, f5, f6, f7, f8⟩ := hp9
  exact k H' _ ls cells slots (Wd_put hW ha (by rw [hsh]; exact Nat.succ_ne_zero _) f1 f2 f3 f4 f5 (f8 hW.2.2.2.2.2.2.1) e2 e3 q1 e1 (by simp [Cell.setSlot]) (ast_cell hsh (Nat.le_of_ble_eq_true rfl) hp)) (Ext_tr hE (Ext_of f1 f3 f4)) hl (hS.put e2 e3 (Nat.le_add_right _ _))
theorem X_zast (C : Cx θ κ y cc nL ret hh d) {a : Nat} {i : Int32} {x : Int32} (ha : a < gBIG) (hsh : sh st a = 104) (hin : vp_in i (ln st a)) (dg : decode cc pc = .ok (.bastore, 1)) (k : X θ κ Φ (putI st a i.toNatClampNeg (vp_nar .boolean x)) (pc + 1) lo stk) : X θ κ Φ st pc lo (.int x :: .int i :: .ref (ad θ a) :: stk) := by
  obtain ⟨p, l, e, R, s, m, args, below, meth, c, st0⟩ := κ
  obtain ⟨hx, hb, hml, hown, hts, hr, hlk, htb, hK, hW0, hR, hst, hnm⟩ := C
  intro H locs ls cells slots hW hE hl hS
  have q1 := cell_arr hW ha hsh (Nat.le_of_ble_eq_true rfl)
  rw [ad_lo ha] at q1
  refine W.zast hx hb q1 ((hK.1.2 3 _ (gtys_at 3 rfl)).1 _ _) (fun h => by cases h) (by rw [arrV_size]; exact hin) rfl (by rw [ad_lo ha]) dg fun H' e1 e2 e3 => ?_
  have hp : Put θ st (putI st a i.toNatClampNeg (vp_nar .boolean x)) (acomp 104) a i.toNatClampNeg (.int (vp_nar .boolean x)) := Put_I (by rw [sv_I (by simp [acomp]), sI_putI])
  have hp9 := hp
  obtain ⟨f1, f2, f3, f4, f5, f6, f7, f8⟩ := hp9
  exact k H' _ ls cells slots (Wd_put hW ha (by rw [hsh]; exact Nat.succ_ne_zero _) f1 f2 f3 f4 f5 (f8 hW.2.2.2.2.2.2.1) e2 e3 q1 e1 (by simp [Cell.setSlot]) (ast_cell hsh (Nat.le_of_ble_eq_true rfl) hp)) (Ext_tr hE (Ext_of f1 f3 f4)) hl (hS.put e2 e3 (Nat.le_add_right _ _))
end HEAP
