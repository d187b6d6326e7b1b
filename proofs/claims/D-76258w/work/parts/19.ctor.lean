/-! MY OWN LAYER, 9: constructors: nothing lasts yet -/
def L0 (θ : Th) : Prop := (∀ k, thS θ k = 0) ∧ ∀ k j, thF θ k j = none
section CTOR
variable {θ : Th} {κ : Kx} {Φ Ψ : Ph} {y : MethodName} {cc : ByteArray} {nL : Nat} {ret : Option FieldType} {hh : List (Nat × Nat × Nat × Nat)} {d : Nat} {st : St} {pc : Nat} {lo : List (Nat × Value)} {stk : List Value}
theorem X_putR0 (C : Cx θ κ y cc nL ret hh d) (hX : L0 θ) {ci j idx : Nat} {q : vw_C} (hc : gcl[ci]? = some q) (hj : j < q.2.2) {ref : String} (hlink : (Cond.fieldLink y.cls idx ref (q.2.1 j).2.1 (q.2.1 j).2.2.1) ∈ lw_all) (hsame : ref = (q.2.1 j).1) (hfin : (q.2.1 j).2.2.2 = false) (dg : decode cc pc = .ok (.putfield idx, 3)) {a : Nat} (ha : a < gBIG) (hsh : sh st a = ci + 1) {v : Option Nat} (ht : (∃ n, gty ci j = .object n) ∨ ∃ t, gty ci j = .array t) (k : X θ κ Φ (putR st a j v) (pc + 3) lo stk) : X θ κ Φ st pc lo (rv θ v :: .ref (ad θ a) :: stk) := X_put C hc hj hlink hsame hfin dg ha hsh (Put_R (by rw [sv_R ht, sR_putR]) (Or.inl (hX.1 a))) (nr_ref ht).1 (nr_ref ht).2 k
theorem X_putFR0 (C : Cx θ κ y cc nL ret hh d) (hX : L0 θ) (hin : y.name = "<init>") {ci j idx : Nat} {q : vw_C} (hc : gcl[ci]? = some q) (hj : j < q.2.2) {ref : String} (hlink : (Cond.fieldLink y.cls idx ref (q.2.1 j).2.1 (q.2.1 j).2.2.1) ∈ lw_all) (hsame : ref = (q.2.1 j).1) (hfin : (q.2.1 j).2.2.2 = true) (hdecl : (q.2.1 j).1 = y.cls) (dg : decode cc pc = .ok (.putfield idx, 3)) {a : Nat} (ha : a < gBIG) (hsh : sh st a = ci + 1) {v : Option Nat} (ht : (∃ n, gty ci j = .object n) ∨ ∃ t, gty ci j = .array t) (k : X θ κ Φ (putR st a j v) (pc + 3) lo stk) : X θ κ Φ st pc lo (rv θ v :: .ref (ad θ a) :: stk) := X_putF C hin hc hj hlink hsame hfin hdecl dg ha hsh (Put_R (by rw [sv_R ht, sR_putR]) (Or.inl (hX.1 a))) (nr_ref ht).1 (nr_ref ht).2 k
/-- an object into a row of its class -/
theorem X_aast0 (C : Cx θ κ y cc nL ret hh d) (hX : L0 θ) {a n j b t ci : Nat} {q : vw_C} {i : Int32} (t0 : Nat) (ht0 : gcodes[t0]? = some t) (h100 : 100 ≤ t) (hc : gcl[ci]? = some q) (hct : acomp t = .object q.1) (ha : a < gBIG) (hsh : sh st a = t) (hlen : ln st a = n) (hin : vp_in i n) (hj : i.toNatClampNeg = j) (hb9 : sh st b = ci + 1) (dg : decode cc pc = .ok (.aastore, 1)) (k : X θ κ Φ (putR st a j (some b)) (pc + 1) lo stk) : X θ κ Φ st pc lo (.ref (ad θ b) :: .int i :: .ref (ad θ a) :: stk) := by
  subst hj
  obtain ⟨p, l, e, R, s, m, args, below, meth, c, st0⟩ := κ
  obtain ⟨hx, hb, hml, hown, hts, hr, hlk, htb, hK, hW0, hR, hst, hnm2⟩ := C
  intro H locs ls cells slots hW hE hl hS
  have q1 := cell_arr hW ha hsh h100
  rw [ad_lo ha] at q1
  obtain ⟨cellV, g1, g2, g3, -⟩ := cell_objW hW hc hb9
  have hcls := (hK.1.1 ci _ hc).2
  have hRA := (hK.1.2 t0 _ (gtys_at t0 ht0)).2
  rw [hct] at hRA
  obtain ⟨kA, comp, k1, k2, k3, -⟩ := hRA
  have hcomp : comp = (thD θ).1 ci := Option.some.inj (k3.symm.trans hcls.1)
  subst hcomp
  obtain ⟨kC, hkC, -⟩ := hcls.2
  have h0 : ¬ i < 0 := fun q => hin (Or.inl q)
  have hlt : i.toNatClampNeg < ln st a := by rw [hlen]; exact Nat.not_le.mp fun q => hin (Or.inr q)
  refine W.aast hx hb q1 (fun q h => by cases h) (fun h => by cases h) k1 k2 rfl hkC ⟨h0, by rw [arrV_size]; exact hlt⟩ g1 (fun q h => by have g9 := g3.2; rw [h] at g9; cases g9) (by rw [g2]; exact hkC) (by rw [g2]; exact va_assign hcls) rfl (by rw [ad_lo ha]) dg fun H1 e1 e2 e3 => ?_
  have hp : Put θ st (putR st a i.toNatClampNeg (some b)) (acomp t) a i.toNatClampNeg (rv θ (some b)) := Put_R (by rw [hct]; simp [sv, putR, sR]) (Or.inl (hX.1 a))
  have hp9 := hp
  obtain ⟨f1, f2, f3, f4, f5, f6, f7, f8⟩ := hp9
  exact k H1 _ ls cells slots (Wd_put hW ha (by rw [hsh]; omega) f1 f2 f3 f4 f5 (f8 hW.2.2.2.2.2.2.1) e2 e3 q1 e1 (by simp [Cell.setSlot]) (ast_cell hsh h100 hp)) (Ext_tr hE (Ext_of f1 f3 f4)) hl (hS.put e2 e3 (Nat.le_add_right _ _))
/-- rows made one after the other, each put into its place -/
def mkRows (st : St) (o c1 k : Nat) : Nat → St
  | 0 => st
  | i + 1 => putR (mk (mkRows st o c1 k i) c1 k) o i (some (sN (mkRows st o c1 k i)))
def mk2 (st : St) (c0 c1 n k : Nat) : St := mkRows (mk st c0 n) (sN st) c1 k n
theorem mkRows_N {st : St} {o c1 k : Nat} : ∀ i, sN (mkRows st o c1 k i) = sN st + i ∧ sS (mkRows st o c1 k i) = sS st + i * k
  | 0 => ⟨rfl, by simp [mkRows]⟩
  | i + 1 => by
    obtain ⟨a, b⟩ := mkRows_N (st := st) (o := o) (c1 := c1) (k := k) i
    refine ⟨?_, ?_⟩
    · show sN (mkRows st o c1 k i) + 1 = _; omega
    · show sS (mkRows st o c1 k i) + k = _; rw [b, Nat.succ_mul]; omega
theorem mkRows_old {st : St} {o c1 k q : Nat} (hq : q < sN st) : ∀ i, sh (mkRows st o c1 k i) q = sh st q ∧ ln (mkRows st o c1 k i) q = ln st q
  | 0 => ⟨rfl, rfl⟩
  | i + 1 => by
    obtain ⟨a, b⟩ := mkRows_old (st := st) (o := o) (c1 := c1) (k := k) hq i
    have hN := (mkRows_N (st := st) (o := o) (c1 := c1) (k := k) i).1
    have hne : q ≠ sN (mkRows st o c1 k i) := by omega
    refine ⟨?_, ?_⟩
    · show (if q = sN (mkRows st o c1 k i) then c1 else sh (mkRows st o c1 k i) q) = _
      rw [if_neg hne]; exact a
    · show (if q = sN (mkRows st o c1 k i) then k else ln (mkRows st o c1 k i) q) = _
      rw [if_neg hne]; exact b
theorem fill_Wd (C : Cx θ κ y cc nL ret hh d) (hL : L0 θ) {T : State} (hW : Wd θ st T.heap) {c0 c1 n k t0 t1 : Nat} (ht0 : gcodes[t0]? = some c0) (ht1 : gcodes[t1]? = some c1) (h0 : 100 ≤ c0) (h1 : 100 ≤ c1) (hd0 : Value.null = defaultValue (acomp c0)) (hv0 : ∀ (st : St) (a j : Nat) (v : Option Nat), sv θ (putR st a j v) (acomp c0) a j = rv θ v) (hN : sN st + 1 + n ≤ gCAP) (hS : sS st + n + n * k ≤ gCAPS) : ∀ i, i ≤ n → Wd θ (mkRows (mk st c0 n) (sN st) c1 k i) (Jvm.Free.Multi.fill T (thA θ c0) (thA θ c1) n k (defaultValue (acomp c1)) i).heap ∧ Ext st (mkRows (mk st c0 n) (sN st) c1 k i)
  | 0, _ => by
    have hm := Nat.zero_le (n * k)
    refine ⟨?_, Ext_mk hW⟩
    exact (X_newarr0 C t0 ht0 h0 rfl hd0 hW (by omega) (by omega)).1
  | i + 1, hi => by
    obtain ⟨hWi, hEi⟩ := fill_Wd C hL hW ht0 ht1 h0 h1 hd0 hv0 hN hS i (by omega)
    have hmul : i * k + k ≤ n * k := by
      have := Nat.mul_le_mul_right k (show i + 1 ≤ n from hi)
      rw [Nat.succ_mul] at this; exact this
    obtain ⟨eN, eS⟩ := mkRows_N (st := mk st c0 n) (o := sN st) (c1 := c1) (k := k) i
    have eN0 : sN (mk st c0 n) = sN st + 1 := rfl
    have eS0 : sS (mk st c0 n) = sS st + n := rfl
    have hNb : sN st < gBIG := by unfold gBIG; unfold gCAP at hN; omega
    have hTs : T.heap.size = thb θ + sN st := hW.1
    obtain ⟨f1, f2, f3, f4⟩ := Jvm.Free.Multi.fill_facts T (thA θ c0) (thA θ c1) n k (defaultValue (acomp c1)) i
    obtain ⟨hW2, hsz, ho⟩ := X_newarr0 (st := mkRows (mk st c0 n) (sN st) c1 k i) C t1 ht1 h1 (n := k) (cA := thA θ c1) rfl rfl hWi (by omega) (by omega)
    have hsh : sh (mk (mkRows (mk st c0 n) (sN st) c1 k i) c1 k) (sN st) = c0 := by
      show (if sN st = sN (mkRows (mk st c0 n) (sN st) c1 k i) then c1 else sh (mkRows (mk st c0 n) (sN st) c1 k i) (sN st)) = c0
      rw [if_neg (by omega), (mkRows_old (by rw [eN0]; omega) i).1]
      exact sh_mk
    have hln : ln (mk (mkRows (mk st c0 n) (sN st) c1 k i) c1 k) (sN st) = n := by
      show (if sN st = sN (mkRows (mk st c0 n) (sN st) c1 k i) then k else ln (mkRows (mk st c0 n) (sN st) c1 k i) (sN st)) = n
      rw [if_neg (by omega), (mkRows_old (by rw [eN0]; omega) i).2]
      exact ln_mk
    have q1 := cell_arr hW2 hNb hsh h0
    rw [ad_lo hNb, hln] at q1
    have q2 : ((Jvm.Free.Multi.fill T (thA θ c0) (thA θ c1) n k (defaultValue (acomp c1)) i).heap.push { cls := thA θ c1, slots := Array.replicate k (defaultValue (acomp c1)), vm := .none } : Heap)[thb θ + sN st]? = some (Jvm.Free.Multi.outerC (thA θ c0) n T.heap.size i) := by
      rw [← hTs, ho T.heap.size (by rw [f1]; omega)]
      exact f2
    have q3 := Option.some.inj (q1.symm.trans q2)
    have hp : Put θ (mk (mkRows (mk st c0 n) (sN st) c1 k i) c1 k) (mkRows (mk st c0 n) (sN st) c1 k (i + 1)) (acomp c0) (sN st) i (rv θ (some (sN (mkRows (mk st c0 n) (sN st) c1 k i)))) := Put_R (hv0 _ _ _ _) (Or.inl (hL.1 _))
    have hp9 := hp
    obtain ⟨g1, g2, g3, g4, g5, g6, g7, g8⟩ := hp9
    have hc := ast_cell hsh h0 hp
    rw [hln, q3] at hc
    have hrf : rv θ (some (sN (mkRows (mk st c0 n) (sN st) c1 k i))) = Value.ref (T.heap.size + 1 + i) := by
      show Value.ref (ad θ _) = _
      rw [ad_lo (by unfold gBIG; unfold gCAP at hN; omega), eN, eN0, hTs]
      have e9 : thb θ + (sN st + 1 + i) = thb θ + sN st + 1 + i := by omega
      rw [e9]
    rw [hrf] at hc
    refine ⟨?_, Ext_tr hEi (Ext_tr (Ext_mk hWi) (Ext_of g1 g3 g4))⟩
    refine Wd_put hW2 hNb (by rw [hsh]; omega) g1 g2 g3 g4 g5 (g8 hW2.2.2.2.2.2.2.1) (H' := (Jvm.Free.Multi.fill T (thA θ c0) (thA θ c1) n k (defaultValue (acomp c1)) (i + 1)).heap) ?_ ?_ q2 (c' := (Jvm.Free.Multi.outerC (thA θ c0) n T.heap.size i).setSlot i (.ref (T.heap.size + 1 + i))) ?_ (by simp [Cell.setSlot]) hc
    · show (((Jvm.Free.Multi.fill T (thA θ c0) (thA θ c1) n k (defaultValue (acomp c1)) i).pushCell (Jvm.Free.Multi.innerC (thA θ c1) k (defaultValue (acomp c1)))).setCell T.heap.size _).heap.size = _
      simp [State.setCell, Jvm.Free.Multi.innerC]
    · intro q hq
      show (((Jvm.Free.Multi.fill T (thA θ c0) (thA θ c1) n k (defaultValue (acomp c1)) i).pushCell (Jvm.Free.Multi.innerC (thA θ c1) k (defaultValue (acomp c1)))).setCell T.heap.size _).heap[q]? = _
      rw [State.heap_setCell_other (by rw [hTs]; exact fun e => hq e.symm)]
      rfl
    · rw [← hTs]
      exact (Jvm.Free.Multi.fill_facts T (thA θ c0) (thA θ c1) n k (defaultValue (acomp c1)) (i + 1)).2.1
theorem X_multi2 (C : Cx θ κ y cc nL ret hh d) (hL : L0 θ) {c0 c1 n k t0 t1 idx : Nat} {vn vk : Int32} {ty : FieldType} {nm : String} (ht0 : gcodes[t0]? = some c0) (ht1 : gcodes[t1]? = some c1) (h0 : 100 ≤ c0) (h1 : 100 ≤ c1) (hd0 : Value.null = defaultValue (acomp c0)) (hv0 : ∀ (st : St) (a j : Nat) (v : Option Nat), sv θ (putR st a j v) (acomp c0) a j = rv θ v) (hc1 : acomp c1 = ty) (hr0 : ∀ U cA, va_RA U cA (acomp c0) → U.vm.findClass nm = some cA) (hr1 : ∀ U cA, va_RA U cA (acomp c1) → U.vm.findClass (FieldType.array ty).toString = some cA) (hnm : "[" ++ (FieldType.array ty).toString = nm) (hn0 : ¬ vn < 0) (hk0 : ¬ vk < 0) (hn : vn.toNatClampNeg = n) (hk : vk.toNatClampNeg = k) (hb1 : n * 8 ≤ 536870912) (hb2 : k * 8 ≤ 536870912) (hcb : componentBytes ty ≤ 8) (hdf : fits ty (defaultValue ty) = true) (hdd : (defaultValue ty).isDefault = true) (hAA : FieldType.array ty ∈ gAA) (harr : Cond.arrayClass ty ∈ lw_all) (hlink : Cond.classLink y.cls idx nm ∈ lw_all) (hN : sN st + 1 + n ≤ gCAP) (hS9 : sS st + n + n * k ≤ gCAPS) (dg : decode cc pc = .ok (.multianewarray idx 2, 4)) (kk : Ext st (mk2 st c0 c1 n k) → X θ κ Φ (mk2 st c0 c1 n k) (pc + 4) lo (.ref (ad θ (sN st)) :: stk)) : X θ κ Φ st pc lo (.int vk :: .int vn :: stk) := by
  have C0 := C
  obtain ⟨p, l, e, R, s, m, args, below, meth, c, st0⟩ := κ
  obtain ⟨hx, hb, hml, hown, hts, hr, hlk, htb, hK, hW0, hR, hst, hnm2⟩ := C
  subst hn hk hc1 hnm
  intro H locs ls cells slots hW hE hl hS
  have hb0 : thb θ ≤ s.heap.size := by have := hW0.1; omega
  refine W_narrow hb0 (fun f1 f2 => ?_)
  have g1 := hW0.1
  have g2 := hW.1
  have g3 := hW.2.2.1
  have g4 := hW0.2.1
  have g5 := hW.2.1
  have g6 := hW.2.2.2.1
  intro T hT X
  have hkb : vk.toNatClampNeg * componentBytes (acomp c1) ≤ 536870912 := Nat.le_trans (Nat.mul_le_mul_left _ hcb) hb2
  have hAAs : (Cond.arrayOver (.array (acomp c1))).before args s = true := hK.2.2.2.2.2.2.2.2.2.2.2.2.2 _ hAA
  obtain ⟨vm₁, cA, comp, hwarm, hnA, hnC, X', step⟩ := X.multianewarray2 hx hown (hts _ hlink) hAAs (hts _ harr) (g := F0 m pc ls (.int vk :: .int vn :: stk)) rfl (by rw [hb]; exact dg) (n := vn) (k := vk) (rest := stk) rfl hn0 hk0 (by omega) hkb (by omega) hdf hdd (by subst hR; show _ ≤ gCAP - sN st0; omega) (by subst hR; show _ ≤ gCAPS - sS st0; omega)
  have e0 : cA = thA θ c0 := Option.some.inj (hnA.symm.trans (hr0 s _ (hK.1.2 t0 _ (gtys_at t0 ht0)).2))
  have e1 : comp = thA θ c1 := Option.some.inj (hnC.symm.trans (hr1 s _ (hK.1.2 t1 _ (gtys_at t1 ht1)).2))
  subst e0 e1
  have hT2 : (T.setVm vm₁).heap = H := hT
  obtain ⟨hW9, hE9⟩ := fill_Wd C0 hL (T := T.setVm vm₁) (by rw [hT2]; exact hW) ht0 ht1 h0 h1 hd0 hv0 hN hS9 vn.toNatClampNeg (Nat.le_refl _)
  have hNb : sN st < gBIG := by unfold gBIG; unfold gCAP at g3; omega
  have hTs : T.heap.size = ad θ (sN st) := by rw [ad_lo hNb, hT]; exact g2
  obtain ⟨t9, a1, b1⟩ := kk hE9 _ _ ls _ _ hW9 (Ext_tr hE hE9) hl ⟨by
      have := (Jvm.Free.Multi.fill_facts (T.setVm vm₁) (thA θ c0) (thA θ c1) vn.toNatClampNeg vk.toNatClampNeg (defaultValue (acomp c1)) vn.toNatClampNeg).1
      rw [this, hT2]
      exact Nat.le_trans hS.1 (by omega), fun q h8 h9 => by
      rw [Jvm.Free.Multi.fill_old _ _ _ _ _ _ (by rw [hT2]; exact Nat.lt_of_lt_of_le h8 hS.1), hT2]
      exact hS.2.1 q h8 h9, fun q hq => by
      rcases List.mem_append.mp hq with h | h
      · exact hS.2.2 q h
      · obtain ⟨z, -, hz⟩ := List.mem_map.mp h
        rw [← hz]
        show thb θ ≤ T.heap.size
        rw [hT, g2]; omega⟩ _ rfl X'
  rw [hTs] at step
  exact ⟨t9, step t9 a1, b1⟩
end CTOR
