/-! MY OWN LAYER, 10: rows of rows of rows (follows MA1, MA2 of the library's shelf 42) -/
section MULTI3
def outer3 (c : ClassId) (N h0 M : Nat) : Nat → Cell
  | 0 => { cls := c, slots := Array.replicate N .null, vm := .none }
  | i + 1 => (outer3 c N h0 M i).setSlot i (.ref (h0 + 1 + i * (1 + M)))
def fill3 (s : State) (c cm ci : ClassId) (N M K : Nat) (dv : Value) : Nat → State
  | 0 => s.pushCell (outer3 c N s.heap.size M 0)
  | i + 1 => (Jvm.Free.Multi.fill (fill3 s c cm ci N M K dv i) cm ci M K dv M).setCell s.heap.size (outer3 c N s.heap.size M (i + 1))
theorem outer3_facts (c : ClassId) (N h0 M : Nat) : ∀ i, (outer3 c N h0 M i).cls = c ∧ (outer3 c N h0 M i).vm = .none ∧ (outer3 c N h0 M i).slots.size = N
  | 0 => ⟨rfl, rfl, by simp [outer3]⟩
  | i + 1 => by
    obtain ⟨a, b, d⟩ := outer3_facts c N h0 M i
    exact ⟨by simp [outer3, Cell.setSlot, a], by simp [outer3, Cell.setSlot, b], by simp [outer3, Cell.setSlot, d]⟩
theorem fill3_facts (s : State) (c cm ci : ClassId) (N M K : Nat) (dv : Value) : ∀ i, (fill3 s c cm ci N M K dv i).heap.size = s.heap.size + 1 + i * (1 + M) ∧ (fill3 s c cm ci N M K dv i).heap[s.heap.size]? = some (outer3 c N s.heap.size M i) ∧
    (fill3 s c cm ci N M K dv i).vm = s.vm ∧ (fill3 s c cm ci N M K dv i).slotsUsed = s.slotsUsed + N + i * (M + M * K)
  | 0 => ⟨by simp [fill3], by simp [fill3], rfl, by simp [fill3, outer3]⟩
  | i + 1 => by
    obtain ⟨a, b, d, u⟩ := fill3_facts s c cm ci N M K dv i
    obtain ⟨a2, b2, d2, u2⟩ := Jvm.Free.Multi.fill_facts (fill3 s c cm ci N M K dv i) cm ci M K dv M
    have hlt : s.heap.size < (fill3 s c cm ci N M K dv i).heap.size := by omega
    have hb' : (Jvm.Free.Multi.fill (fill3 s c cm ci N M K dv i) cm ci M K dv M).heap[s.heap.size]? = some (outer3 c N s.heap.size M i) := by rw [Jvm.Free.Multi.fill_old _ _ _ _ _ _ hlt]; exact b
    have hsz : (outer3 c N s.heap.size M (i + 1)).slots.size = (outer3 c N s.heap.size M i).slots.size := by rw [(outer3_facts c N s.heap.size M (i + 1)).2.2, (outer3_facts c N s.heap.size M i).2.2]
    refine ⟨?_, State.heap_setCell_self hb', by simp [fill3, d2, d], ?_⟩
    · simp only [fill3, State.setCell, Array.size_setIfInBounds]
      rw [a2, a, Nat.succ_mul]; omega
    · have e9 : (fill3 s c cm ci N M K dv (i + 1)).slotsUsed = (Jvm.Free.Multi.fill (fill3 s c cm ci N M K dv i) cm ci M K dv M).slotsUsed := rfl
      rw [e9, u2, u, Nat.succ_mul]; omega
theorem fill3_old (s : State) (c cm ci : ClassId) (N M K : Nat) (dv : Value) {a : Addr} (ha : a < s.heap.size) : ∀ i, (fill3 s c cm ci N M K dv i).heap[a]? = s.heap[a]?
  | 0 => State.heap_pushCell_of_lt _ _ ha
  | i + 1 => by
    have f1 := (fill3_facts s c cm ci N M K dv i).1
    have hlt : a < (fill3 s c cm ci N M K dv i).heap.size := Nat.lt_of_lt_of_le ha (by rw [f1]; omega)
    show ((Jvm.Free.Multi.fill (fill3 s c cm ci N M K dv i) cm ci M K dv M).setCell s.heap.size _).heap[a]? = _
    rw [State.heap_setCell_other (Nat.ne_of_gt ha), Jvm.Free.Multi.fill_old _ _ _ _ _ _ hlt]
    exact fill3_old s c cm ci N M K dv ha i
theorem filled3 {p : Program} {l : Launch} {e : Env} {R : Room} {s : State} {m : MethodId} {args : Array Value} {below : List Frame} {meth : Method} {c : Code} {T : State} {locs : List Loc} {cells slots : Nat} (X : Stand p l e R s m args below meth c T locs cells slots) (cA cm ci : ClassId) (N M K : Nat) (dv : Value) :
    ∀ i, ∃ L : List Loc, (∀ q ∈ L, T.heap.size ≤ q.base) ∧ Stand p l e R s m args below meth c (fill3 T cA cm ci N M K dv i) (locs ++ L) (cells + 1 + i * (1 + M)) (slots + N + i * (M + M * K))
  | 0 => by
    have h := X.pushed (outer3 cA N T.heap.size M 0)
    rw [(outer3_facts cA N T.heap.size M 0).2.2] at h
    exact ⟨[], fun q hq => absurd hq List.not_mem_nil, by simpa [fill3] using h⟩
  | i + 1 => by
    obtain ⟨L, hL, Xi⟩ := filled3 X cA cm ci N M K dv i
    obtain ⟨f1, f2, f3, f4⟩ := fill3_facts T cA cm ci N M K dv i
    have hlt0 : T.heap.size < (fill3 T cA cm ci N M K dv i).heap.size := by rw [f1]; omega
    have Y := Xi.filled cm ci M K dv M
    have hcell : (Jvm.Free.Multi.fill (fill3 T cA cm ci N M K dv i) cm ci M K dv M).heap[T.heap.size]? = some (outer3 cA N T.heap.size M i) := by rw [Jvm.Free.Multi.fill_old _ _ _ _ _ _ hlt0]; exact f2
    have h := Y.stored hcell i (.ref (T.heap.size + 1 + i * (1 + M)))
    refine ⟨L ++ (List.range M).map (fun j => (⟨(fill3 T cA cm ci N M K dv i).heap.size, j⟩ : Loc)) ++ [⟨T.heap.size, i⟩], fun q hq => ?_, ?_⟩
    · rcases List.mem_append.mp hq with hq | hq
      · rcases List.mem_append.mp hq with hq | hq
        · exact hL q hq
        · obtain ⟨z, -, hz⟩ := List.mem_map.mp hq
          rw [← hz]
          exact Nat.le_of_lt hlt0
      · rw [List.mem_singleton.mp hq]
        exact Nat.le_refl _
    · have e2 : cells + 1 + (i + 1) * (1 + M) = cells + 1 + i * (1 + M) + 1 + M := by rw [Nat.succ_mul]; omega
      have e3 : slots + N + (i + 1) * (M + M * K) = slots + N + i * (M + M * K) + M + M * K := by rw [Nat.succ_mul]; omega
      rw [e2, e3, ← List.append_assoc, ← List.append_assoc]
      exact h
theorem wp_make3 {E : CtlPost} {e : Env} {d : Bool} {acts : List Action} {s : State} {c cm ci cc : ClassId} {k km ki : Class} {t0 t1 type : FieldType} {n n2 m : Int32} (hk : s.vm.classes[c]? = some k) (hkind : k.kind = .array cm t0) (href : t0.isReference = true)
    (hkm : s.vm.classes[cm]? = some km) (hkindm : km.kind = .array ci t1) (hrefm : t1.isReference = true) (hki : s.vm.classes[ci]? = some ki) (hkindi : ki.kind = .array cc type) (hn : ¬ n < 0) (hn2 : ¬ n2 < 0) (hm : ¬ m < 0)
    (hl1 : ¬ n.toNatClampNeg > e.platform.arrayLengthLimit) (hh1 : ¬ n.toNatClampNeg * componentBytes t0 > e.platform.maxHeapBytes)
    (hl2 : ¬ n2.toNatClampNeg > e.platform.arrayLengthLimit) (hh2 : ¬ n2.toNatClampNeg * componentBytes t1 > e.platform.maxHeapBytes)
    (hl3 : ¬ m.toNatClampNeg > e.platform.arrayLengthLimit) (hh3 : ¬ m.toNatClampNeg * componentBytes type > e.platform.maxHeapBytes)
    (hdf : fits type (defaultValue type) = true) (hdd : (defaultValue type).isDefault = true)
    (hc : s.heap.size + 1 + n.toNatClampNeg * (1 + n2.toNatClampNeg) ≤ e.platform.maxCells) (hs : s.slotsUsed + n.toNatClampNeg + n.toNatClampNeg * (n2.toNatClampNeg + n2.toNatClampNeg * m.toNatClampNeg) ≤ e.platform.maxSlots)
    {Q : Addr → Pre} (hq : ∀ d' acts', Q s.heap.size d' acts' (fill3 s c cm ci n.toNatClampNeg n2.toNatClampNeg m.toNatClampNeg (defaultValue type) n.toNatClampNeg)) :
    wp (Op.multianewarray.make c [n, n2, m]) Q E e d acts s := by
  have hfind : ([n2, m].find? (· < 0)) = none := by simp [hm, hn2]
  rw [Op.multianewarray.make]
  simp only [wp_bind', W.ite, hn, if_false, wp_pure', W.theClass, hk, hkind, Option.some.injEq, exists_eq_left']
  refine Jvm.Free.Multi.wp_newArray hk hkind hl1 hh1 (Jvm.Free.Multi.refFits href _ (Or.inl rfl)) rfl (by omega) (by have := Nat.zero_le (n.toNatClampNeg * (n2.toNatClampNeg + n2.toNatClampNeg * m.toNatClampNeg)); omega) ?_
  simp only [hfind]
  rw [ite_self, wp_bind', Std.Legacy.Range.forIn_eq_forIn_range']
  have hsz : ([:n.toNatClampNeg] : Std.Legacy.Range).size = n.toNatClampNeg := by simp [Std.Legacy.Range.size]
  rw [hsz]
  show wp (forIn (List.range' 0 n.toNatClampNeg 1) PUnit.unit _) _ E e d acts _
  refine wp_forIn_inv (fun rest s' => ∃ i, i ≤ n.toNatClampNeg ∧ rest = List.range' i (n.toNatClampNeg - i) ∧ s' = fill3 s c cm ci n.toNatClampNeg n2.toNatClampNeg m.toNatClampNeg (defaultValue type) i) _ _ ⟨0, Nat.zero_le _, rfl, rfl⟩ ?_ ?_
  · rintro x rest s' d' acts' Q' ⟨i, hi, hl, rfl⟩ hnext
    have hlt : i < n.toNatClampNeg := by
      rcases Nat.lt_or_ge i n.toNatClampNeg with h | h
      · exact h
      · rw [show n.toNatClampNeg - i = 0 from by omega] at hl; simp at hl
    obtain ⟨rfl, hrest⟩ : x = i ∧ rest = List.range' (i + 1) (n.toNatClampNeg - (i + 1)) := by
      rw [show n.toNatClampNeg - i = (n.toNatClampNeg - (i + 1)) + 1 from by omega, List.range'_succ] at hl
      exact ⟨(List.cons.inj hl).1, (List.cons.inj hl).2⟩
    obtain ⟨f1, f2, f3, f4⟩ := fill3_facts s c cm ci n.toNatClampNeg n2.toNatClampNeg m.toNatClampNeg (defaultValue type) x
    obtain ⟨o1, o2, o3⟩ := outer3_facts c n.toNatClampNeg s.heap.size n2.toNatClampNeg x
    have hmulS : x * (n2.toNatClampNeg + n2.toNatClampNeg * m.toNatClampNeg) + (n2.toNatClampNeg + n2.toNatClampNeg * m.toNatClampNeg) ≤ n.toNatClampNeg * (n2.toNatClampNeg + n2.toNatClampNeg * m.toNatClampNeg) := by
      have := Nat.mul_le_mul_right (n2.toNatClampNeg + n2.toNatClampNeg * m.toNatClampNeg) (show x + 1 ≤ n.toNatClampNeg from hlt)
      rw [Nat.succ_mul] at this; exact this
    have hmulC : x * (1 + n2.toNatClampNeg) + (1 + n2.toNatClampNeg) ≤ n.toNatClampNeg * (1 + n2.toNatClampNeg) := by
      have := Nat.mul_le_mul_right (1 + n2.toNatClampNeg) (show x + 1 ≤ n.toNatClampNeg from hlt)
      rw [Nat.succ_mul] at this; exact this
    simp only [wp_bind']
    refine Jvm.Free.Multi.wp_make2 (by rw [f3]; exact hkm) hkindm hrefm (by rw [f3]; exact hki) hkindi hn2 hm hl2 hh2 hl3 hh3 hdf hdd (by rw [f1]; omega) (by rw [f4]; omega) (fun d2 acts2 => ?_)
    have hlt0 : s.heap.size < (fill3 s c cm ci n.toNatClampNeg n2.toNatClampNeg m.toNatClampNeg (defaultValue type) x).heap.size := by rw [f1]; omega
    obtain ⟨a1, a2, a3, a4⟩ := Jvm.Free.Multi.fill_facts (fill3 s c cm ci n.toNatClampNeg n2.toNatClampNeg m.toNatClampNeg (defaultValue type) x) cm ci n2.toNatClampNeg m.toNatClampNeg (defaultValue type) n2.toNatClampNeg
    simp only [wp_bind', W.writeLoc, wp_pure']
    refine ⟨outer3 c n.toNatClampNeg s.heap.size n2.toNatClampNeg x, by rw [Jvm.Free.Multi.fill_old _ _ _ _ _ _ hlt0]; exact f2, by rw [o2]; simp, by rw [o3]; exact hlt, ?_, hnext _ _ _ ⟨x + 1, hlt, hrest, ?_⟩⟩
    · rw [o1, o2]
      simp [State.fitsSlot, State.slotType?, a3, f3, hk, hkind, Jvm.Free.Multi.refFits href _ (Or.inr ⟨_, rfl⟩)]
    · rw [f1]; rfl
  · rintro s' d' acts' ⟨i, hi, hl, rfl⟩
    have hiN : i = n.toNatClampNeg := by
      rcases Nat.lt_or_ge i n.toNatClampNeg with h | h
      · rw [show n.toNatClampNeg - i = (n.toNatClampNeg - (i + 1)) + 1 from by omega, List.range'_succ] at hl; cases hl
      · omega
    subst hiN
    simp only [wp_pure']
    exact hq _ _
theorem fill3_setTop (s : State) (f : JFrame) (c cm ci : ClassId) (N M K : Nat) (dv : Value) : ∀ i, fill3 (s.setTop f) c cm ci N M K dv i = (fill3 s c cm ci N M K dv i).setTop f
  | 0 => rfl
  | i + 1 => by simp only [fill3, fill3_setTop s f c cm ci N M K dv i, State.heap_setTop, Jvm.Free.Multi.fill_setTop, State.setCell_setTop]
theorem multi3_at {p : Program} {l : Launch} {e : Env} {R : Room} {s : State} {m : MethodId} {args : Array Value} {below : List Frame} {meth : Method} {c : Code} {T : State} {locs : List Loc} {cells slots : Nat} (X : Stand p l e R s m args below meth c T locs cells slots) (hexec : p.tables.exec = Jvm.exec) {own : String} {index : Nat}
    (hown : s.vm.findClass own = some m.cls) (hclink : (Cond.classLink own index ("[" ++ (FieldType.array (.array .int)).toString)).before args s = true)
    (hover : (Cond.arrayOver (.array (.array .int))).before args s = true) (hover2 : (Cond.arrayOver (.array .int)).before args s = true) (harr : (Cond.arrayClass .int).before args s = true)
    {g : JFrame} (hg : g.method = m) (hdg : decode c.code g.pc = .ok (.multianewarray index 3, 4)) {n n2 k : Int32} {rest : List Value} (hstack : g.stack = .int k :: .int n2 :: .int n :: rest)
    (hn : ¬ n < 0) (hn2 : ¬ n2 < 0) (hk : ¬ k < 0) (hb1 : n.toNatClampNeg * 8 ≤ 536870912) (hb2 : n2.toNatClampNeg * 8 ≤ 536870912) (hb3 : k.toNatClampNeg * 8 ≤ 536870912)
    (hcells : cells + (1 + n.toNatClampNeg * (1 + n2.toNatClampNeg)) ≤ R.cells) (hslots : slots + (n.toNatClampNeg + n.toNatClampNeg * (n2.toNatClampNeg + n2.toNatClampNeg * k.toNatClampNeg)) ≤ R.slots) :
    ∃ (vm₁ : Vm) (cA cM cI : ClassId), s.WarmedH vm₁ ∧ s.vm.findClass ("[" ++ (FieldType.array (.array .int)).toString) = some cA ∧ s.vm.findClass ("[" ++ (FieldType.array .int).toString) = some cM ∧ s.vm.findClass (FieldType.array .int).toString = some cI ∧
      (∃ L : List Loc, (∀ q ∈ L, T.heap.size ≤ q.base) ∧ Stand p l e R s m args below meth c (fill3 (T.setVm vm₁) cA cM cI n.toNatClampNeg n2.toNatClampNeg k.toNatClampNeg (defaultValue .int) n.toNatClampNeg) (locs ++ L) (cells + 1 + n.toNatClampNeg * (1 + n2.toNatClampNeg)) (slots + n.toNatClampNeg + n.toNatClampNeg * (n2.toNatClampNeg + n2.toNatClampNeg * k.toNatClampNeg))) ∧
      ∀ target, Steps p.tables e below ((fill3 (T.setVm vm₁) cA cM cI n.toNatClampNeg n2.toNatClampNeg k.toNatClampNeg (defaultValue .int) n.toNatClampNeg).setTop { g with pc := g.pc + 4, stack := .ref T.heap.size :: rest }) target →
        Steps p.tables e below (T.setTop g) target := by
  subst hg
  have hpl : e.platform.magicAccessors = ({} : Platform).magicAccessors := by rw [X.admits.platform]
  obtain ⟨cM, cA, kA, hcM, hkA, hkindA, hnameA⟩ := Cond.arrayOver_specA hover
  obtain ⟨cI, cM', kM, hcI, hkM, hkindM, hnameM⟩ := Cond.arrayOver_specA hover2
  obtain ⟨cI', kC, cc, hcI', hkC, hkindC⟩ := Cond.arrayClass_spec harr
  have e1 : cI' = cI := Option.some.inj (hcI'.symm.trans hcI)
  subst e1
  have e2 : cM' = cM := Option.some.inj (hnameM.symm.trans hcM)
  subst e2
  obtain ⟨c0, hfc0, hcl⟩ := Cond.classLink_spec hown hclink e.platform hpl
  cases hnameA.symm.trans hfc0
  obtain ⟨hg₁, hwarm₁, hready₁⟩ := State.classEntry (e := e) X.warmed hcl
  generalize T.vm.noted g.method.cls index (.cls cA) = vm₁ at hg₁ hwarm₁ hready₁
  have hal : s.vm.Alike vm₁ := hwarm₁.alike
  obtain ⟨kA₁, hkA₁, heA⟩ := hal.2.2 _ _ hkA
  obtain ⟨kM₁, hkM₁, heM⟩ := hal.2.2 _ _ hkM
  obtain ⟨kC₁, hkC₁, heC⟩ := hal.2.2 _ _ hkC
  have hkindA₁ : kA₁.kind = .array cM' (.array (.array .int)) := by rw [heA]; exact hkindA
  have hkindM₁ : kM₁.kind = .array cI' (.array .int) := by rw [heM]; exact hkindM
  have hkindC₁ : kC₁.kind = .array cc .int := by rw [heC]; exact hkindC
  have X₁ := X.noted hwarm₁
  obtain ⟨hr1, hr2⟩ := X.roomAbove hcells hslots
  refine ⟨vm₁, cA, cM', cI', hwarm₁, hnameA, hnameM, hcI, filled3 X₁ cA cM' cI' _ _ _ _ _, fun target hrest => ?_⟩
  have hl : ∀ z : Nat, z * 8 ≤ 536870912 → ¬ z > e.platform.arrayLengthLimit := fun z hz => by rw [Launch.admits_arrayLengthLimit X.admits]; omega
  have hh : ∀ z b : Nat, b ≤ 8 → z * 8 ≤ 536870912 → ¬ z * b > e.platform.maxHeapBytes := fun z b hb hz => by
    rw [Launch.admits_maxHeapBytes X.admits]
    have := Nat.mul_le_mul_left z hb
    omega
  jvm_step X.here [hexec, hdg]
  simp only [multianewarray.sem, wp_bind', W.resolveClassAt_links (State.method?_setTop g X.here.top) hg₁]
  rw [W.popN, if_neg (by decide)]
  refine ⟨g, State.topJava?_setTop' (s := T.setVm vm₁) g X.here.top, [.int n, .int n2, .int k], rest, rfl, hstack, ?_⟩
  simp only [List.mapM_cons, List.mapM_nil, wp_bind', wp_pure']
  refine wp_make3 (k := kA₁) (km := kM₁) (ki := kC₁) (cm := cM') (ci := cI') (cc := cc) (t0 := .array (.array .int)) (t1 := .array .int) (type := .int) hkA₁ hkindA₁ rfl hkM₁ hkindM₁ rfl hkC₁ hkindC₁ hn hn2 hk (hl _ hb1) (hh _ _ (by decide) hb1) (hl _ hb2) (hh _ _ (by decide) hb2) (hl _ hb3) (hh _ _ (by decide) hb3) rfl rfl (by show T.heap.size + 1 + _ ≤ _; omega) (by show T.slotsUsed + _ + _ ≤ _; omega) (fun d' acts' => ?_)
  obtain ⟨L, hL, XF⟩ := filled3 X₁ cA cM' cI' n.toNatClampNeg n2.toNatClampNeg k.toNatClampNeg (defaultValue .int) n.toNatClampNeg
  have eS : ((T.setTop g).setVm vm₁).setTop { g with stack := rest } = (T.setVm vm₁).setTop { g with stack := rest } := by
    show ((T.setVm vm₁).setTop g).setTop _ = _
    rw [State.setTop_setTop]
  rw [eS, fill3_setTop]
  simp only [wp_bind', W.mark, W.pushRef, State.topJava?_setTop' _ XF.here.top, Option.some.injEq, exists_eq_left', State.setTop_setTop, State.heap_setTop]
  intro acts
  simp [jvm, XF.here.top]
  exact hrest
end MULTI3
section MULTI3X
variable {θ : Th} {κ : Kx} {Φ Ψ : Ph} {y : MethodName} {cc : ByteArray} {nL : Nat} {ret : Option FieldType} {hh : List (Nat × Nat × Nat × Nat)} {d : Nat} {st : St} {pc : Nat} {lo : List (Nat × Value)} {stk : List Value}
def mkRows3 (st : St) (o n2 k : Nat) : Nat → St
  | 0 => st
  | i + 1 => putR (mk2 (mkRows3 st o n2 k i) 111 101 n2 k) o i (some (sN (mkRows3 st o n2 k i)))
def mk3 (st : St) (n n2 k : Nat) : St := mkRows3 (mk st 112 n) (sN st) n2 k n
theorem mk2_N {c0 c1 n k : Nat} : sN (mk2 st c0 c1 n k) = sN st + 1 + n ∧ sS (mk2 st c0 c1 n k) = sS st + n + n * k := by
  obtain ⟨a, b⟩ := mkRows_N (st := mk st c0 n) (o := sN st) (c1 := c1) (k := k) n
  exact ⟨a, b⟩
theorem mk2_old {c0 c1 n k q : Nat} (hq : q < sN st) : sh (mk2 st c0 c1 n k) q = sh st q ∧ ln (mk2 st c0 c1 n k) q = ln st q := by
  obtain ⟨a, b⟩ := mkRows_old (st := mk st c0 n) (o := sN st) (c1 := c1) (k := k) (q := q) (by show q < sN st + 1; omega) n
  refine ⟨a.trans ?_, b.trans ?_⟩
  · show (if q = sN st then c0 else sh st q) = _
    rw [if_neg (by omega)]
  · show (if q = sN st then n else ln st q) = _
    rw [if_neg (by omega)]
theorem mk2_sh {c0 c1 n k : Nat} : sh (mk2 st c0 c1 n k) (sN st) = c0 := (mkRows_old (st := mk st c0 n) (o := sN st) (c1 := c1) (k := k) (q := sN st) (Nat.lt_succ_self _) n).1.trans sh_mk
theorem mkRows3_N {st : St} {o n2 k : Nat} : ∀ i, sN (mkRows3 st o n2 k i) = sN st + i * (1 + n2) ∧ sS (mkRows3 st o n2 k i) = sS st + i * (n2 + n2 * k)
  | 0 => ⟨by simp [mkRows3], by simp [mkRows3]⟩
  | i + 1 => by
    obtain ⟨a, b⟩ := mkRows3_N (st := st) (o := o) (n2 := n2) (k := k) i
    obtain ⟨a2, b2⟩ := mk2_N (st := mkRows3 st o n2 k i) (c0 := 111) (c1 := 101) (n := n2) (k := k)
    refine ⟨?_, ?_⟩
    · show sN (mk2 (mkRows3 st o n2 k i) 111 101 n2 k) = _
      rw [a2, a, Nat.succ_mul]; omega
    · show sS (mk2 (mkRows3 st o n2 k i) 111 101 n2 k) = _
      rw [b2, b, Nat.succ_mul]; omega
theorem mkRows3_old {st : St} {o n2 k q : Nat} (hq : q < sN st) : ∀ i, sh (mkRows3 st o n2 k i) q = sh st q ∧ ln (mkRows3 st o n2 k i) q = ln st q
  | 0 => ⟨rfl, rfl⟩
  | i + 1 => by
    obtain ⟨a, b⟩ := mkRows3_old (st := st) (o := o) (n2 := n2) (k := k) hq i
    have hN := (mkRows3_N (st := st) (o := o) (n2 := n2) (k := k) i).1
    obtain ⟨a2, b2⟩ := mk2_old (st := mkRows3 st o n2 k i) (c0 := 111) (c1 := 101) (n := n2) (k := k) (q := q) (by omega)
    exact ⟨a2.trans a, b2.trans b⟩
theorem mk3_sh {n n2 k : Nat} : sh (mk3 st n n2 k) (sN st) = 112 := (mkRows3_old (st := mk st 112 n) (q := sN st) (Nat.lt_succ_self _) n).1.trans sh_mk
theorem fill3_Wd (C : Cx θ κ y cc nL ret hh d) (hL : L0 θ) {T : State} (hW : Wd θ st T.heap) {n n2 k : Nat} (hN : sN st + 1 + n * (1 + n2) ≤ gCAP) (hS : sS st + n + n * (n2 + n2 * k) ≤ gCAPS) : ∀ i, i ≤ n → Wd θ (mkRows3 (mk st 112 n) (sN st) n2 k i) (fill3 T (thA θ 112) (thA θ 111) (thA θ 101) n n2 k (defaultValue .int) i).heap ∧ Ext st (mkRows3 (mk st 112 n) (sN st) n2 k i)
  | 0, _ => by
    have hm := Nat.zero_le (n * (n2 + n2 * k))
    have hm2 := Nat.zero_le (n * (1 + n2))
    refine ⟨?_, Ext_mk hW⟩
    exact (X_newarr0 C 7 (t := 112) rfl (by omega) rfl rfl hW (by omega) (by omega)).1
  | i + 1, hi => by
    obtain ⟨hWi, hEi⟩ := fill3_Wd C hL hW hN hS i (by omega)
    have hmulS : i * (n2 + n2 * k) + (n2 + n2 * k) ≤ n * (n2 + n2 * k) := by
      have := Nat.mul_le_mul_right (n2 + n2 * k) (show i + 1 ≤ n from hi)
      rw [Nat.succ_mul] at this; exact this
    have hmulN : i * (1 + n2) + (1 + n2) ≤ n * (1 + n2) := by
      have := Nat.mul_le_mul_right (1 + n2) (show i + 1 ≤ n from hi)
      rw [Nat.succ_mul] at this; exact this
    obtain ⟨eN, eS⟩ := mkRows3_N (st := mk st 112 n) (o := sN st) (n2 := n2) (k := k) i
    have eN0 : sN (mk st 112 n) = sN st + 1 := rfl
    have eS0 : sS (mk st 112 n) = sS st + n := rfl
    have hNb : sN st < gBIG := by unfold gBIG; unfold gCAP at hN; omega
    have hTs : T.heap.size = thb θ + sN st := hW.1
    obtain ⟨f1, f2, f3, f4⟩ := fill3_facts T (thA θ 112) (thA θ 111) (thA θ 101) n n2 k (defaultValue .int) i
    obtain ⟨hW2, hE2⟩ := fill_Wd C hL hWi (c0 := 111) (c1 := 101) (n := n2) (k := k) (t0 := 6) (t1 := 0) rfl rfl (by omega) (by omega) rfl (fun st a j v => by simp [acomp, sv, putR, sR]) (by omega) (by omega) n2 (Nat.le_refl _)
    have hsh : sh (mk2 (mkRows3 (mk st 112 n) (sN st) n2 k i) 111 101 n2 k) (sN st) = 112 := by
      rw [(mk2_old (by rw [eN, eN0]; omega)).1, (mkRows3_old (by rw [eN0]; omega) i).1]
      exact sh_mk
    have hln : ln (mk2 (mkRows3 (mk st 112 n) (sN st) n2 k i) 111 101 n2 k) (sN st) = n := by
      rw [(mk2_old (by rw [eN, eN0]; omega)).2, (mkRows3_old (by rw [eN0]; omega) i).2]
      exact ln_mk
    have q1 := cell_arr (st := mk2 (mkRows3 (mk st 112 n) (sN st) n2 k i) 111 101 n2 k) hW2 hNb hsh (by omega)
    rw [ad_lo hNb, hln] at q1
    have q2 : (Jvm.Free.Multi.fill (fill3 T (thA θ 112) (thA θ 111) (thA θ 101) n n2 k (defaultValue .int) i) (thA θ 111) (thA θ 101) n2 k (defaultValue .int) n2).heap[thb θ + sN st]? = some (outer3 (thA θ 112) n T.heap.size n2 i) := by
      have hlt0 : T.heap.size < (fill3 T (thA θ 112) (thA θ 111) (thA θ 101) n n2 k (defaultValue .int) i).heap.size := by rw [f1]; omega
      rw [← hTs, Jvm.Free.Multi.fill_old _ _ _ _ _ _ hlt0]
      exact f2
    have q3 := Option.some.inj (q1.symm.trans q2)
    have hp : Put θ (mk2 (mkRows3 (mk st 112 n) (sN st) n2 k i) 111 101 n2 k) (mkRows3 (mk st 112 n) (sN st) n2 k (i + 1)) (acomp 112) (sN st) i (rv θ (some (sN (mkRows3 (mk st 112 n) (sN st) n2 k i)))) := Put_R (by simp [acomp, sv, putR, sR]) (Or.inl (hL.1 _))
    have hp9 := hp
    obtain ⟨g1, g2, g3, g4, g5, g6, g7, g8⟩ := hp9
    have hc := ast_cell hsh (by omega) hp
    rw [hln, q3] at hc
    have hrf : rv θ (some (sN (mkRows3 (mk st 112 n) (sN st) n2 k i))) = Value.ref (T.heap.size + 1 + i * (1 + n2)) := by
      show Value.ref (ad θ _) = _
      rw [ad_lo (by unfold gBIG; unfold gCAP at hN; omega), eN, eN0, hTs]
      have e9 : thb θ + (sN st + 1 + i * (1 + n2)) = thb θ + sN st + 1 + i * (1 + n2) := by omega
      rw [e9]
    rw [hrf] at hc
    refine ⟨?_, Ext_tr hEi (Ext_tr hE2 (Ext_of g1 g3 g4))⟩
    refine Wd_put (st := mk2 (mkRows3 (mk st 112 n) (sN st) n2 k i) 111 101 n2 k) hW2 hNb (by rw [hsh]; omega) g1 g2 g3 g4 g5 (g8 hW2.2.2.2.2.2.2.1) (H' := (fill3 T (thA θ 112) (thA θ 111) (thA θ 101) n n2 k (defaultValue .int) (i + 1)).heap) ?_ ?_ q2 (c' := (outer3 (thA θ 112) n T.heap.size n2 i).setSlot i (.ref (T.heap.size + 1 + i * (1 + n2)))) ?_ (by simp [Cell.setSlot]) hc
    · show ((Jvm.Free.Multi.fill (fill3 T (thA θ 112) (thA θ 111) (thA θ 101) n n2 k (defaultValue .int) i) (thA θ 111) (thA θ 101) n2 k (defaultValue .int) n2).setCell T.heap.size _).heap.size = _
      simp [State.setCell]; rfl
    · intro q hq
      show ((Jvm.Free.Multi.fill (fill3 T (thA θ 112) (thA θ 111) (thA θ 101) n n2 k (defaultValue .int) i) (thA θ 111) (thA θ 101) n2 k (defaultValue .int) n2).setCell T.heap.size _).heap[q]? = _
      rw [State.heap_setCell_other (by rw [hTs]; exact fun e => hq e.symm)]
      rfl
    · rw [← hTs]
      exact (fill3_facts T (thA θ 112) (thA θ 111) (thA θ 101) n n2 k (defaultValue .int) (i + 1)).2.1
theorem X_multi3 (C : Cx θ κ y cc nL ret hh d) (hL : L0 θ) {n n2 k idx : Nat} {vn vn2 vk : Int32} (hr0 : ∀ U cA, va_RA U cA (acomp 112) → U.vm.findClass ("[" ++ (FieldType.array (.array .int)).toString) = some cA) (hr1 : ∀ U cA, va_RA U cA (acomp 111) → U.vm.findClass ("[" ++ (FieldType.array .int).toString) = some cA) (hr2 : ∀ U cA, va_RA U cA (acomp 101) → U.vm.findClass (FieldType.array .int).toString = some cA) (hn0 : ¬ vn < 0) (hn20 : ¬ vn2 < 0) (hk0 : ¬ vk < 0) (hn : vn.toNatClampNeg = n) (hn2 : vn2.toNatClampNeg = n2) (hk : vk.toNatClampNeg = k) (hb1 : n * 8 ≤ 536870912) (hb2 : n2 * 8 ≤ 536870912) (hb3 : k * 8 ≤ 536870912) (hA1 : FieldType.array (.array .int) ∈ gAA) (hA2 : FieldType.array .int ∈ gAA) (harr : Cond.arrayClass .int ∈ lw_all) (hlink : Cond.classLink y.cls idx ("[" ++ (FieldType.array (.array .int)).toString) ∈ lw_all) (hN : sN st + (1 + n * (1 + n2)) ≤ gCAP) (hS9 : sS st + (n + n * (n2 + n2 * k)) ≤ gCAPS) (dg : decode cc pc = .ok (.multianewarray idx 3, 4)) (kk : Ext st (mk3 st n n2 k) → X θ κ Φ (mk3 st n n2 k) (pc + 4) lo (.ref (ad θ (sN st)) :: stk)) : X θ κ Φ st pc lo (.int vk :: .int vn2 :: .int vn :: stk) := by
  have C0 := C
  obtain ⟨p, l, e, R, s, m, args, below, meth, c, st0⟩ := κ
  obtain ⟨hx, hb, hml, hown, hts, hr, hlk, htb, hK, hW0, hR, hst, hnm2⟩ := C
  subst hn hn2 hk
  intro H locs ls cells slots hW hE hl hS
  have hb0 : thb θ ≤ s.heap.size := by have := hW0.1; omega
  refine W_narrow hb0 (fun f1 f2 => ?_)
  have g1 := hW0.1
  have g2 := hW.1
  have g3 := hW.2.2.1
  have g4 := hW0.2.1
  have g5 := hW.2.1
  have g6 := hW.2.2.2.1
  intro T hT X
  have hA := hK.2.2.2.2.2.2.2.2.2.2.2.2.2
  obtain ⟨vm₁, cA, cM, cI, hwarm, hnA, hnM, hnI, ⟨L, hLb, X'⟩, step⟩ := multi3_at X hx hown (hts _ hlink) (hA _ hA1) (hA _ hA2) (hts _ harr) (g := F0 m pc ls (.int vk :: .int vn2 :: .int vn :: stk)) rfl (by rw [hb]; exact dg) (n := vn) (n2 := vn2) (k := vk) (rest := stk) rfl hn0 hn20 hk0 hb1 hb2 hb3 (by subst hR; show _ ≤ gCAP - sN st0; omega) (by subst hR; show _ ≤ gCAPS - sS st0; omega)
  have e0 : cA = thA θ 112 := Option.some.inj (hnA.symm.trans (hr0 s _ (hK.1.2 7 _ (gtys_at 7 rfl)).2))
  have e1 : cM = thA θ 111 := Option.some.inj (hnM.symm.trans (hr1 s _ (hK.1.2 6 _ (gtys_at 6 rfl)).2))
  have e2 : cI = thA θ 101 := Option.some.inj (hnI.symm.trans (hr2 s _ (hK.1.2 0 _ (gtys_at 0 rfl)).2))
  subst e0 e1 e2
  have hT2 : (T.setVm vm₁).heap = H := hT
  obtain ⟨hW9, hE9⟩ := fill3_Wd C0 hL (T := T.setVm vm₁) (by rw [hT2]; exact hW) (n := vn.toNatClampNeg) (n2 := vn2.toNatClampNeg) (k := vk.toNatClampNeg) (by rw [Nat.add_assoc]; exact hN) (by rw [Nat.add_assoc]; exact hS9) vn.toNatClampNeg (Nat.le_refl _)
  have hNb : sN st < gBIG := by unfold gBIG; unfold gCAP at g3; omega
  have hTs : T.heap.size = ad θ (sN st) := by rw [ad_lo hNb, hT]; exact g2
  have hZ := (fill3_facts (T.setVm vm₁) (thA θ 112) (thA θ 111) (thA θ 101) vn.toNatClampNeg vn2.toNatClampNeg vk.toNatClampNeg (defaultValue .int) vn.toNatClampNeg).1
  obtain ⟨t9, a1, b1⟩ := kk hE9 _ _ ls _ _ hW9 (Ext_tr hE hE9) hl ⟨by
      rw [hZ, hT2]
      exact Nat.le_trans hS.1 (by omega), fun q h8 h9 => by
      rw [fill3_old _ _ _ _ _ _ _ _ (by rw [hT2]; exact Nat.lt_of_lt_of_le h8 hS.1), hT2]
      exact hS.2.1 q h8 h9, fun q hq => by
      rcases List.mem_append.mp hq with h | h
      · exact hS.2.2 q h
      · have h3 : T.heap.size ≤ q.base := hLb q h
        rw [hT] at h3; exact Nat.le_trans (by rw [g2]; exact Nat.le_add_right _ _) h3⟩ _ rfl X'
  rw [hTs] at step
  exact ⟨t9, step t9 a1, b1⟩
end MULTI3X
