/-! MY OWN LAYER, 2: the judgement X (a frame at pc over a world of the typed store comes to its method's end with Φ), a rule an instruction -/
/-- words that speak of the tables alone but aren't in lw_all -/
def extWord (w : Cond) : Bool := match w with
  | .fieldLinkNest _ _ _ _ _ _ => true
  | .methodLinkNest _ _ _ _ => true
  | .castable _ _ => true
  | .declares _ => true
  | _ => false
theorem ext_warm {w : Cond} (hw : extWord w = true) {s U : State} (hW : s.WarmedH U.vm) (h : va_Nw w s) : va_Nw w U := by
  cases w <;> simp [extWord] at hw
  · exact va_Nw.warmM hW h
  · exact va_Nw.warmF hW h
  · exact va_Nw.warmD hW h
  · exact va_Nw.warmC hW h
theorem ext_same {w : Cond} (hw : extWord w = true) {s U : State} (hW : s.vm = U.vm) (h : va_Nw w s) : va_Nw w U := by
  cases w <;> simp [extWord] at hw <;> exact va_Nw.same rfl hW h
def gAO : List String := ["SecretsWorth$Ratio", "SecretsWorth$Sheet", "SecretsWorth$Node"]
def gIF : List (String × MethodName × MethodName) := [
  ("SecretsWorth$Node", ⟨"SecretsWorth$Says", "told", "()Ljava/lang/String;"⟩, ⟨"SecretsWorth$Node", "told", "()Ljava/lang/String;"⟩),
  ("SecretsWorth$Ratio", ⟨"SecretsWorth$Says", "told", "()Ljava/lang/String;"⟩, ⟨"SecretsWorth$Ratio", "told", "()Ljava/lang/String;"⟩),
  ("SecretsWorth$Node", ⟨"SecretsWorth$Says", "behind", "(Ljava/lang/String;)Ljava/lang/String;"⟩, ⟨"SecretsWorth$Says", "behind", "(Ljava/lang/String;)Ljava/lang/String;"⟩),
  ("SecretsWorth$Ratio", ⟨"SecretsWorth$Says", "behind", "(Ljava/lang/String;)Ljava/lang/String;"⟩, ⟨"SecretsWorth$Says", "behind", "(Ljava/lang/String;)Ljava/lang/String;"⟩),
  ("java/lang/String", ⟨"java/lang/CharSequence", "length", "()I"⟩, ⟨"java/lang/String", "length", "()I"⟩),
  ("java/lang/StringBuilder", ⟨"java/lang/CharSequence", "length", "()I"⟩, ⟨"java/lang/StringBuilder", "length", "()I"⟩),
  ("java/lang/String", ⟨"java/lang/CharSequence", "charAt", "(I)C"⟩, ⟨"java/lang/String", "charAt", "(I)C"⟩),
  ("java/lang/StringBuilder", ⟨"java/lang/CharSequence", "charAt", "(I)C"⟩, ⟨"java/lang/StringBuilder", "charAt", "(I)C"⟩)]
def gNC : List (String × String) := [("SecretsWorth$Wrong", "java/lang/ArithmeticException"), ("java/lang/ArrayIndexOutOfBoundsException", "java/lang/NullPointerException"), ("[J", "[S")]
theorem gIF_ok : ∀ q ∈ gIF, q.2.1.cls ≠ "java/lang/invoke/MethodHandle" ∧ q.2.1.cls ≠ "java/lang/invoke/VarHandle" := by decide +kernel
def KE (U : State) : Prop := (∀ w ∈ lw_tbl, extWord w = true → va_Nw w U) ∧ (∀ C ∈ gAO, va_AO C U) ∧ (∀ q ∈ gIF, va_Fw q.1 q.2.1 q.2.2 U) ∧ ∀ q ∈ gNC, va_Nc q.1 q.2 U
theorem KE_warm {s U : State} (hW : s.WarmedH U.vm) (h : KE s) : KE U := ⟨fun w h1 h2 => ext_warm h2 hW (h.1 w h1 h2), fun C hC => (h.2.1 C hC).moved hW.alike, fun q hq => (h.2.2.1 q hq).moved (gIF_ok q hq) hW.alike, fun q hq => (h.2.2.2 q hq).moved hW.alike⟩
theorem alike_eq {s U : State} (hvm : s.vm = U.vm) : s.vm.Alike U.vm := by rw [hvm]; exact Vm.Alike.refl _
theorem warm_eq {s U : State} (hvm : s.vm = U.vm) : s.WarmedH U.vm := by rw [← hvm]; exact State.WarmedH.refl s
theorem KE_same {s U : State} (hvm : s.vm = U.vm) (h : KE s) : KE U := ⟨fun w h1 h2 => ext_same h2 hvm (h.1 w h1 h2), fun C hC => (h.2.1 C hC).moved (alike_eq hvm), fun q hq => (h.2.2.1 q hq).moved (gIF_ok q hq) (alike_eq hvm), fun q hq => (h.2.2.2 q hq).moved (alike_eq hvm)⟩
/-- statics and String constants: what lies below the base -/
def gSR : List (String × Nat × String × Nat) := [("SecretsWorth", 124, "", 0), ("java/lang/Math", 116, "long overflow", 1), ("SecretsWorth", 515, "states", 2), ("SecretsWorth", 516, "parts", 3), ("SecretsWorth", 517, "size", 4), ("SecretsWorth", 519, "game", 5), ("SecretsWorth", 521, "prior", 6), ("SecretsWorth", 522, "target", 7), ("SecretsWorth", 534, "tree", 8), ("SecretsWorth", 494, "stay", 9), ("SecretsWorth", 573, "(", 10), ("SecretsWorth", 581, ",", 11), ("SecretsWorth", 583, ")=", 12), ("SecretsWorth$Node", 48, " stay ", 13), ("SecretsWorth$Node", 53, "[", 14), ("SecretsWorth$Node", 55, ",", 11), ("java/lang/String", 1005, "null", 15), ("java/lang/Throwable", 81, ": ", 16), ("SecretsWorth$Node", 70, "]", 17), ("SecretsWorth$Says", 20, "", 0), ("SecretsWorth$Says", 25, "/", 18), ("SecretsWorth", 591, ";", 19), ("SecretsWorth", 593, "+", 20), ("SecretsWorthModel", 378, "states", 2), ("SecretsWorthModel", 384, "parts", 3), ("SecretsWorthModel", 389, "size", 4), ("SecretsWorthModel", 391, "game", 5), ("SecretsWorthModel", 396, "prior", 6), ("SecretsWorthModel", 398, "target", 7), ("SecretsWorthModel", 400, "tree", 8), ("SecretsWorthModel", 405, "stay", 9), ("SecretsWorthModel", 456, " stay ", 13)]
def Af (θ : Th) : Nat → Prop := fun q => thb θ ≤ q
/-- default methods of an interface: what narrow_1 says of them -/
def gDF : List (String × MethodName) := [("SecretsWorth$Node", ⟨"SecretsWorth$Says", "behind", "(Ljava/lang/String;)Ljava/lang/String;"⟩), ("SecretsWorth$Ratio", ⟨"SecretsWorth$Says", "behind", "(Ljava/lang/String;)Ljava/lang/String;"⟩)]
theorem gDF_ok : ∀ q ∈ gDF, q.2.cls ≠ "java/lang/invoke/MethodHandle" ∧ q.2.cls ≠ "java/lang/invoke/VarHandle" := by decide +kernel
/-- private methods of the builder's superclass, selected on a builder -/
def gPS : List MethodName := [⟨"java/lang/AbstractStringBuilder", "ensureCapacityInternal", "(I)V"⟩, ⟨"java/lang/AbstractStringBuilder", "newCapacity", "(I)I"⟩, ⟨"java/lang/AbstractStringBuilder", "inflateIfNeededFor", "(Ljava/lang/String;)V"⟩, ⟨"java/lang/AbstractStringBuilder", "putStringAt", "(ILjava/lang/String;)V"⟩]
def PS (z : MethodName) (U : State) : Prop := (Cond.selects "java/lang/StringBuilder" z z).before #[] U = true
/-- classes of rows of rows -/
def gAA : List FieldType := [.array .int, .array (.array .int), .array .long]
def AA (t : FieldType) (U : State) : Prop := (Cond.arrayOver t).before #[] U = true
theorem AA.moved {t : FieldType} {u U : State} (hvm : u.vm.Alike U.vm) (h : AA t u) : AA t U := by
  have e : (Cond.arrayOver t).before #[] (u.setVm U.vm) = true := (Cond.arrayOver_setVmC hvm t).trans h
  exact e
def LD (C : String) (x : MethodName) (U : State) : Prop := (Cond.landsInDefault C x x).before #[] U = true
theorem LD.moved {C : String} {x : MethodName} (hx : x.cls ≠ "java/lang/invoke/MethodHandle" ∧ x.cls ≠ "java/lang/invoke/VarHandle") {u U : State} (hvm : u.vm.Alike U.vm) (h : LD C x u) : LD C x U := by
  obtain ⟨c2, r2, m2, rm, q1, q2, q3, q5, q4, -, q6, -⟩ := Cond.landsInDefault_spec h
  have e : (Cond.landsInDefault C x x).before #[] (u.setVm U.vm) = true := (Cond.landsInDefault_setVm hvm (State.methodFound?_setVm_of_named hvm q3 hx)).trans h
  exact e
def KS (θ : Th) (U : State) (H : Heap) : Prop := (∀ q ∈ gSR, vk_R q.1 q.2.1 q.2.2.1 (ad θ (gBIG + 2 * q.2.2.2)) U) ∧ vx_Zq Bundle.tN "UNASSIGNED_STACK" Bundle.steD (Af θ) U H ∧ vx_Zq Bundle.tN "SUPPRESSED_SENTINEL" Bundle.listD (Af θ) U H ∧ (∃ r, va_Z Bundle.tN "UNASSIGNED_STACK" Bundle.steD (rv θ r) (Af θ) U H) ∧ (∃ r, va_Z Bundle.tN "SUPPRESSED_SENTINEL" Bundle.listD (rv θ r) (Af θ) U H) ∧
  va_Z "java/lang/String" "COMPACT_STRINGS" "Z" (.int 1) (Af θ) U H ∧ va_Z "java/lang/Integer" "DigitTens" "[B" (.ref (ad θ (gBIG + 200))) (Af θ) U H ∧ va_Z "java/lang/Integer" "DigitOnes" "[B" (.ref (ad θ (gBIG + 201))) (Af θ) U H ∧ (∃ r, va_Z "jdk/internal/util/Preconditions" "SIOOBE_FORMATTER" "Ljava/util/function/BiFunction;" (rv θ r) (Af θ) U H) ∧ (∀ q ∈ gDF, LD q.1 q.2 U) ∧ (∀ z ∈ gPS, PS z U) ∧ ∀ t ∈ gAA, AA t U
theorem KS_moved {θ : Th} {u U : State} {H H1 : Heap} (hW : u.WarmedH U.vm) (hq : ∀ q : Nat, q < H.size → ¬ Af θ q → H1[q]? = H[q]?) (h : KS θ u H) : KS θ U H1 := by
  obtain ⟨h1, h2, h3, ⟨r8, h8⟩, ⟨r9, h9⟩, h4, h5, h6, ⟨r7, h7⟩, h77, h78, h79⟩ := h
  exact ⟨fun q hq => vk_R.warm hW (h1 q hq), vx_Zq.moved hW.alike (h2.kept hq), vx_Zq.moved hW.alike (h3.kept hq), ⟨r8, (h8.kept hq).moved hW.alike⟩, ⟨r9, (h9.kept hq).moved hW.alike⟩, (h4.kept hq).moved hW.alike, (h5.kept hq).moved hW.alike, (h6.kept hq).moved hW.alike, ⟨r7, (h7.kept hq).moved hW.alike⟩, fun q hq => (h77 q hq).moved (gDF_ok q hq) hW.alike, fun z hz => word_at hW (Or.inl rfl) (h78 z hz), fun z hz => (h79 z hz).moved hW.alike⟩
theorem KS_PS {θ : Th} {U : State} {H : Heap} (h : KS θ U H) {z : MethodName} (hz : z ∈ gPS) {args : Array Value} : (Cond.selects "java/lang/StringBuilder" z z).before args U = true := word_at (State.WarmedH.refl U) (Or.inl rfl) (h.2.2.2.2.2.2.2.2.2.2.1 z hz)
def gcodes : List Nat := [101, 102, 103, 104, 105, 106, 111, 112, 113, 114, 115, 116]
def gtys (θ : Th) : List (ClassId × FieldType) := gcodes.map fun t => (thA θ t, acomp t)
theorem gtys_at {θ : Th} (i : Nat) {t : Nat} (h : gcodes[i]? = some t) : (gtys θ)[i]? = some (thA θ t, acomp t) := by
  unfold gtys
  rw [List.getElem?_map, h]; rfl
def KW (θ : Th) (U : State) (H : Heap) : Prop := va_K (thD θ) gcl (gtys θ) U ∧ KE U ∧ KS θ U H
theorem KW_warm {θ : Th} {u U : State} {H H1 : Heap} (hW : u.WarmedH U.vm) (hq : ∀ q : Nat, q < H.size → ¬ thb θ ≤ q → H1[q]? = H[q]?) (h : KW θ u H) : KW θ U H1 := ⟨h.1.moved hW.alike, KE_warm hW h.2.1, KS_moved hW hq h.2.2⟩
theorem KW_same {θ : Th} {u U : State} {H : Heap} (hvm : u.vm = U.vm) (h : KW θ u H) : KW θ U H := ⟨h.1.moved (alike_eq hvm), KE_same hvm h.2.1, KS_moved (warm_eq hvm) (fun _ _ _ => rfl) h.2.2⟩
/-- answers: what a normal end says, what a throw says (class, address) -/
abbrev Ph : Type := (St → Option Value → Prop) × (St → String → Addr → Prop)
abbrev Kx : Type := Program × Launch × Env × Room × State × MethodId × Array Value × List Frame × Method × Code × St
def rmD (d : Nat) (st : St) : Room := { frames := d + 20, cells := gCAP - sN st, slots := gCAPS - sS st, locals := 60 * d + 10600 }
def Qn (θ : Th) (st : St) (Φ : Ph) : Array Value → State → Outcome → State → Prop := fun _ s0 o t => (∃ (st' : St) (v : Option Value), o = .returned v ∧ Φ.1 st' v ∧ Wd θ st' t.heap ∧ Ext st st') ∧ va_F (Af θ) s0 t
def Qe (θ : Th) (st : St) (Φ : Ph) : Addr → String → State → State → Prop := fun q E s0 t => (∃ st' : St, Φ.2 st' E q ∧ Wd θ st' t.heap ∧ Ext st st') ∧ va_F (Af θ) s0 t
/-- how large the heap is -/
def Wq (θ : Th) (st : St) (H : Heap) : Prop := H.size = thb θ + sN st ∧ slotSum H (thb θ) = sS st ∧ True
theorem Wq_of {θ : Th} {st : St} {H : Heap} (h : Wd θ st H) : Wq θ st H := ⟨h.1, h.2.1, trivial⟩
/-- what stands all through a method's run -/
def Cx (θ : Th) (κ : Kx) (y : MethodName) (cc : ByteArray) (nL : Nat) (ret : Option FieldType) (hh : List (Nat × Nat × Nat × Nat)) (d : Nat) : Prop := match κ with
  | (p, l, e, R, s, m, args, below, meth, c, st0) => p.tables.exec = Jvm.exec ∧ c.code = cc ∧ c.maxLocals = nL ∧ s.vm.findClass y.cls = some m.cls ∧ (∀ w ∈ lw_all, w.before args s = true) ∧ meth.sig.returnType = ret ∧ meth.locks = false ∧ c.exceptionTable.toList = tableOf hh ∧ KW θ s s.heap ∧
    Wq θ st0 s.heap ∧ R = rmD d st0 ∧ l.stackTraces = false ∧ meth.name = y.name
def X (θ : Th) (κ : Kx) (Φ : Ph) (st : St) (pc : Nat) (lo : List (Nat × Value)) (stk : List Value) : Prop := match κ with
  | (p, l, e, R, s, m, args, below, meth, c, st0) => ∀ (H : Heap) (locs : List Loc) (ls : Array Slot) (cells slots : Nat), Wd θ st H → Ext st0 st → lv_has ls c.maxLocals lo → va_S (Af θ) s.heap H locs →
    W p l e R s m args below meth c H locs cells slots (vx_MQ below (Qn θ st0 Φ) (Qe θ st0 Φ) args s (gCAP - sN st0) (gCAPS - sS st0) (Af θ)) (F0 m pc ls stk)
/-- the same with q, of class E, thrown over the frame -/
def XT (θ : Th) (κ : Kx) (Φ : Ph) (st : St) (pc : Nat) (lo : List (Nat × Value)) (E : String) (q : Addr) : Prop := match κ with
  | (p, l, e, R, s, m, args, below, meth, c, st0) => ∀ (H : Heap) (locs : List Loc) (ls : Array Slot) (cells slots : Nat) (rest : List Value) (ce : Cell), Wd θ st H → Ext st0 st → lv_has ls c.maxLocals lo → va_S (Af θ) s.heap H locs → H[q]? = some ce → ce.vm = .none → s.vm.findClass E = some ce.cls →
    vx_W p l e R s m args below meth c H locs cells slots (vx_MQ below (Qn θ st0 Φ) (Qe θ st0 Φ) args s (gCAP - sN st0) (gCAPS - sS st0) (Af θ)) (F0 m pc ls rest) q
/-- a method's contract: at most d calls deep, from any world that the store st describes, it ends with Φ -/
def Ct (θ : Th) (l : Launch) (y : MethodName) (ws : List Cond) (d : Nat) (As : List Value) (st : St) (Φ : Ph) : Prop :=
  vx_Met l y ws (rmD d st) (va_Pc As (fun U => Wd θ st U.heap ∧ KW θ U U.heap)) (Qn θ st Φ) (Qe θ st Φ) (gCAP - sN st) (gCAPS - sS st) (Af θ)
section RULES
variable {θ : Th} {κ : Kx} {Φ : Ph} {y : MethodName} {cc : ByteArray} {nL : Nat} {ret : Option FieldType} {hh : List (Nat × Nat × Nat × Nat)} {d : Nat} {st : St} {pc : Nat} {lo : List (Nat × Value)} {stk : List Value}
theorem X_iconst (C : Cx θ κ y cc nL ret hh d) {n : Int} {v : Int32} (dg : decode cc pc = .ok (.iconst n, 1)) (hv : Int32.ofInt n = v) (k : X θ κ Φ st (pc + 1) lo (.int v :: stk)) : X θ κ Φ st pc lo (stk) := by
  obtain ⟨p, l, e, R, s, m, args, below, meth, c, st0⟩ := κ
  obtain ⟨hx, hb, hml, hown, hts, hr, hlk, htb, hK, hW0, hR, hst, hnm⟩ := C
  intro H locs ls cells slots hW hE hl hS
  exact lv_iconst hx hb dg hv (k H locs ls cells slots hW hE hl hS)
theorem X_bipush (C : Cx θ κ y cc nL ret hh d) {n : Int} {v : Int32} (dg : decode cc pc = .ok (.bipush n, 2)) (hv : (Int8.ofInt n).toInt32 = v) (k : X θ κ Φ st (pc + 2) lo (.int v :: stk)) : X θ κ Φ st pc lo (stk) := by
  obtain ⟨p, l, e, R, s, m, args, below, meth, c, st0⟩ := κ
  obtain ⟨hx, hb, hml, hown, hts, hr, hlk, htb, hK, hW0, hR, hst, hnm⟩ := C
  intro H locs ls cells slots hW hE hl hS
  exact lv_bipush hx hb dg hv (k H locs ls cells slots hW hE hl hS)
theorem X_sipush (C : Cx θ κ y cc nL ret hh d) {n : Int} {v : Int32} (dg : decode cc pc = .ok (.sipush n, 3)) (hv : (Int16.ofInt n).toInt32 = v) (k : X θ κ Φ st (pc + 3) lo (.int v :: stk)) : X θ κ Φ st pc lo (stk) := by
  obtain ⟨p, l, e, R, s, m, args, below, meth, c, st0⟩ := κ
  obtain ⟨hx, hb, hml, hown, hts, hr, hlk, htb, hK, hW0, hR, hst, hnm⟩ := C
  intro H locs ls cells slots hW hE hl hS
  exact lv_sipush hx hb dg hv (k H locs ls cells slots hW hE hl hS)
theorem X_lconst (C : Cx θ κ y cc nL ret hh d) {n : Fin 2} {v : Int64} (dg : decode cc pc = .ok (.lconst n, 1)) (hv : Int64.ofNat (n : Nat) = v) (k : X θ κ Φ st (pc + 1) lo (.long v :: stk)) : X θ κ Φ st pc lo (stk) := by
  obtain ⟨p, l, e, R, s, m, args, below, meth, c, st0⟩ := κ
  obtain ⟨hx, hb, hml, hown, hts, hr, hlk, htb, hK, hW0, hR, hst, hnm⟩ := C
  intro H locs ls cells slots hW hE hl hS
  exact lv_lconst hx hb dg hv (k H locs ls cells slots hW hE hl hS)
theorem X_null (C : Cx θ κ y cc nL ret hh d) (dg : decode cc pc = .ok (.aconst_null, 1)) (k : X θ κ Φ st (pc + 1) lo (.null :: stk)) : X θ κ Φ st pc lo (stk) := by
  obtain ⟨p, l, e, R, s, m, args, below, meth, c, st0⟩ := κ
  obtain ⟨hx, hb, hml, hown, hts, hr, hlk, htb, hK, hW0, hR, hst, hnm⟩ := C
  intro H locs ls cells slots hW hE hl hS
  exact lv_null hx hb dg (k H locs ls cells slots hW hE hl hS)
theorem X_ldc (C : Cx θ κ y cc nL ret hh d) {i : Nat} {v : Int32} (hc : (Cond.constant y.cls i v) ∈ lw_all) (dg : decode cc pc = .ok (.ldc i, 2)) (k : X θ κ Φ st (pc + 2) lo (.int v :: stk)) : X θ κ Φ st pc lo (stk) := by
  obtain ⟨p, l, e, R, s, m, args, below, meth, c, st0⟩ := κ
  obtain ⟨hx, hb, hml, hown, hts, hr, hlk, htb, hK, hW0, hR, hst, hnm⟩ := C
  intro H locs ls cells slots hW hE hl hS
  exact lv_ldc hx hb hown (hts _ hc) dg (k H locs ls cells slots hW hE hl hS)
theorem X_ldcw (C : Cx θ κ y cc nL ret hh d) {i : Nat} {v : Int32} (hc : (Cond.constant y.cls i v) ∈ lw_all) (dg : decode cc pc = .ok (.ldc_w i, 3)) (k : X θ κ Φ st (pc + 3) lo (.int v :: stk)) : X θ κ Φ st pc lo (stk) := by
  obtain ⟨p, l, e, R, s, m, args, below, meth, c, st0⟩ := κ
  obtain ⟨hx, hb, hml, hown, hts, hr, hlk, htb, hK, hW0, hR, hst, hnm⟩ := C
  intro H locs ls cells slots hW hE hl hS
  exact lv_ldcw hx hb hown (hts _ hc) dg (k H locs ls cells slots hW hE hl hS)
theorem X_ldc2 (C : Cx θ κ y cc nL ret hh d) {i : Nat} {v : Int64} (hc : (Cond.constantLong y.cls i v) ∈ lw_all) (dg : decode cc pc = .ok (.ldc2_w i, 3)) (k : X θ κ Φ st (pc + 3) lo (.long v :: stk)) : X θ κ Φ st pc lo (stk) := by
  obtain ⟨p, l, e, R, s, m, args, below, meth, c, st0⟩ := κ
  obtain ⟨hx, hb, hml, hown, hts, hr, hlk, htb, hK, hW0, hR, hst, hnm⟩ := C
  intro H locs ls cells slots hW hE hl hS
  exact lv_ldc2 hx hb hown (hts _ hc) dg (k H locs ls cells slots hW hE hl hS)
theorem X_iload_n (C : Cx θ κ y cc nL ret hh d) {f : Fin 4} {i : Nat} {v : Int32} (dg : decode cc pc = .ok (.iload_n f, 1)) (hi : (f : Nat) = i) (j : Nat) (hj : lo[j]? = some (i, .int v)) (k : X θ κ Φ st (pc + 1) lo (.int v :: stk)) : X θ κ Φ st pc lo (stk) := by
  obtain ⟨p, l, e, R, s, m, args, below, meth, c, st0⟩ := κ
  obtain ⟨hx, hb, hml, hown, hts, hr, hlk, htb, hK, hW0, hR, hst, hnm⟩ := C
  intro H locs ls cells slots hW hE hl hS
  exact lv_iload_n hx hb dg hi (lv_at hl j hj) (k H locs ls cells slots hW hE hl hS)
theorem X_iload (C : Cx θ κ y cc nL ret hh d) {i : Nat} {v : Int32} (dg : decode cc pc = .ok (.iload i, 2)) (j : Nat) (hj : lo[j]? = some (i, .int v)) (k : X θ κ Φ st (pc + 2) lo (.int v :: stk)) : X θ κ Φ st pc lo (stk) := by
  obtain ⟨p, l, e, R, s, m, args, below, meth, c, st0⟩ := κ
  obtain ⟨hx, hb, hml, hown, hts, hr, hlk, htb, hK, hW0, hR, hst, hnm⟩ := C
  intro H locs ls cells slots hW hE hl hS
  exact lv_iload hx hb dg (lv_at hl j hj) (k H locs ls cells slots hW hE hl hS)
theorem X_lload_n (C : Cx θ κ y cc nL ret hh d) {f : Fin 4} {i : Nat} {v : Int64} (dg : decode cc pc = .ok (.lload_n f, 1)) (hi : (f : Nat) = i) (j : Nat) (hj : lo[j]? = some (i, .long v)) (k : X θ κ Φ st (pc + 1) lo (.long v :: stk)) : X θ κ Φ st pc lo (stk) := by
  obtain ⟨p, l, e, R, s, m, args, below, meth, c, st0⟩ := κ
  obtain ⟨hx, hb, hml, hown, hts, hr, hlk, htb, hK, hW0, hR, hst, hnm⟩ := C
  intro H locs ls cells slots hW hE hl hS
  exact lv_lload_n hx hb dg hi (lv_at hl j hj) (k H locs ls cells slots hW hE hl hS)
theorem X_lload (C : Cx θ κ y cc nL ret hh d) {i : Nat} {v : Int64} (dg : decode cc pc = .ok (.lload i, 2)) (j : Nat) (hj : lo[j]? = some (i, .long v)) (k : X θ κ Φ st (pc + 2) lo (.long v :: stk)) : X θ κ Φ st pc lo (stk) := by
  obtain ⟨p, l, e, R, s, m, args, below, meth, c, st0⟩ := κ
  obtain ⟨hx, hb, hml, hown, hts, hr, hlk, htb, hK, hW0, hR, hst, hnm⟩ := C
  intro H locs ls cells slots hW hE hl hS
  exact lv_lload hx hb dg (lv_at hl j hj) (k H locs ls cells slots hW hE hl hS)
def isRV (v : Value) : Prop := v = .null ∨ ∃ a, v = .ref a
theorem isRV_r (a : Nat) : isRV (.ref a) := Or.inr ⟨a, rfl⟩
theorem isRV_n : isRV .null := Or.inl rfl
theorem isRV_v (θ : Th) (r : Option Nat) : isRV (rv θ r) := by cases r with
  | none => exact isRV_n
  | some a => exact isRV_r _
theorem isRV_c {v : Value} (h : isRV v) : v.category = 1 := by
  rcases h with rfl | ⟨a, rfl⟩ <;> rfl
theorem X_aload_n (C : Cx θ κ y cc nL ret hh d) {f : Fin 4} {i : Nat} {v : Value} (dg : decode cc pc = .ok (.aload_n f, 1)) (hi : (f : Nat) = i) (j : Nat) (hj : lo[j]? = some (i, v)) (hv : isRV v) (k : X θ κ Φ st (pc + 1) lo (v :: stk)) : X θ κ Φ st pc lo stk := by
  obtain ⟨p, l, e, R, s, m, args, below, meth, c, st0⟩ := κ
  obtain ⟨hx, hb, hml, hown, hts, hr, hlk, htb, hK, hW0, hR, hst, hnm⟩ := C
  rcases hv with rfl | ⟨a, rfl⟩
  · intro H locs ls cells slots hW hE hl hS
    exact lv_aload_nN hx hb dg hi (lv_at hl j hj) (k H locs ls cells slots hW hE hl hS)
  · intro H locs ls cells slots hW hE hl hS
    exact lv_aload_n hx hb dg hi (lv_at hl j hj) (k H locs ls cells slots hW hE hl hS)
theorem X_aload (C : Cx θ κ y cc nL ret hh d) {i : Nat} {v : Value} (dg : decode cc pc = .ok (.aload i, 2)) (j : Nat) (hj : lo[j]? = some (i, v)) (hv : isRV v) (k : X θ κ Φ st (pc + 2) lo (v :: stk)) : X θ κ Φ st pc lo stk := by
  obtain ⟨p, l, e, R, s, m, args, below, meth, c, st0⟩ := κ
  obtain ⟨hx, hb, hml, hown, hts, hr, hlk, htb, hK, hW0, hR, hst, hnm⟩ := C
  rcases hv with rfl | ⟨a, rfl⟩
  · intro H locs ls cells slots hW hE hl hS
    exact lv_aloadN hx hb dg (lv_at hl j hj) (k H locs ls cells slots hW hE hl hS)
  · intro H locs ls cells slots hW hE hl hS
    exact lv_aload hx hb dg (lv_at hl j hj) (k H locs ls cells slots hW hE hl hS)
theorem X_istore_n (C : Cx θ κ y cc nL ret hh d) {f : Fin 4} {i : Nat} {v : Int32} (dg : decode cc pc = .ok (.istore_n f, 1)) (hi : (f : Nat) = i) {lo2 : List (Nat × Value)} (hn : i < nL) (hlo : (i, .int v) :: lo.filter (fun q : Nat × Value => !(q.1 == i) && !(q.1 + 1 == i && q.2.category == 2)) = lo2) (k : X θ κ Φ st (pc + 1) lo2 stk) : X θ κ Φ st pc lo (.int v :: stk) := by
  obtain ⟨p, l, e, R, s, m, args, below, meth, c, st0⟩ := κ
  obtain ⟨hx, hb, hml, hown, hts, hr, hlk, htb, hK, hW0, hR, hst, hnm⟩ := C
  intro H locs ls cells slots hW hE hl hS
  rw [hml] at hl
  exact lv_istore_n hx hb dg hi hl hn hlo (fun ls2 hl2 => k H locs ls2 cells slots hW hE (by rw [hml]; exact hl2) hS)
theorem X_istore (C : Cx θ κ y cc nL ret hh d) {i : Nat} {v : Int32} (dg : decode cc pc = .ok (.istore i, 2)) {lo2 : List (Nat × Value)} (hn : i < nL) (hlo : (i, .int v) :: lo.filter (fun q : Nat × Value => !(q.1 == i) && !(q.1 + 1 == i && q.2.category == 2)) = lo2) (k : X θ κ Φ st (pc + 2) lo2 stk) : X θ κ Φ st pc lo (.int v :: stk) := by
  obtain ⟨p, l, e, R, s, m, args, below, meth, c, st0⟩ := κ
  obtain ⟨hx, hb, hml, hown, hts, hr, hlk, htb, hK, hW0, hR, hst, hnm⟩ := C
  intro H locs ls cells slots hW hE hl hS
  rw [hml] at hl
  exact lv_istore hx hb dg hl hn hlo (fun ls2 hl2 => k H locs ls2 cells slots hW hE (by rw [hml]; exact hl2) hS)
theorem X_lstore_n (C : Cx θ κ y cc nL ret hh d) {f : Fin 4} {i : Nat} {v : Int64} (dg : decode cc pc = .ok (.lstore_n f, 1)) (hi : (f : Nat) = i) {lo2 : List (Nat × Value)} (hn : i + 1 < nL) (hlo : (i, .long v) :: lo.filter (fun q : Nat × Value => !(q.1 == i) && (!(q.1 == i + 1) && !(q.1 + 1 == i && q.2.category == 2))) = lo2) (k : X θ κ Φ st (pc + 1) lo2 stk) : X θ κ Φ st pc lo (.long v :: stk) := by
  obtain ⟨p, l, e, R, s, m, args, below, meth, c, st0⟩ := κ
  obtain ⟨hx, hb, hml, hown, hts, hr, hlk, htb, hK, hW0, hR, hst, hnm⟩ := C
  intro H locs ls cells slots hW hE hl hS
  rw [hml] at hl
  exact lv_lstore_n hx hb dg hi hl hn hlo (fun ls2 hl2 => k H locs ls2 cells slots hW hE (by rw [hml]; exact hl2) hS)
theorem X_lstore (C : Cx θ κ y cc nL ret hh d) {i : Nat} {v : Int64} (dg : decode cc pc = .ok (.lstore i, 2)) {lo2 : List (Nat × Value)} (hn : i + 1 < nL) (hlo : (i, .long v) :: lo.filter (fun q : Nat × Value => !(q.1 == i) && (!(q.1 == i + 1) && !(q.1 + 1 == i && q.2.category == 2))) = lo2) (k : X θ κ Φ st (pc + 2) lo2 stk) : X θ κ Φ st pc lo (.long v :: stk) := by
  obtain ⟨p, l, e, R, s, m, args, below, meth, c, st0⟩ := κ
  obtain ⟨hx, hb, hml, hown, hts, hr, hlk, htb, hK, hW0, hR, hst, hnm⟩ := C
  intro H locs ls cells slots hW hE hl hS
  rw [hml] at hl
  exact lv_lstore hx hb dg hl hn hlo (fun ls2 hl2 => k H locs ls2 cells slots hW hE (by rw [hml]; exact hl2) hS)
theorem X_astore_n (C : Cx θ κ y cc nL ret hh d) {f : Fin 4} {i : Nat} {v : Value} (dg : decode cc pc = .ok (.astore_n f, 1)) (hi : (f : Nat) = i) (hv : isRV v) {lo2 : List (Nat × Value)} (hn : i < nL) (hlo : (i, v) :: lo.filter (fun q : Nat × Value => !(q.1 == i) && !(q.1 + 1 == i && q.2.category == 2)) = lo2) (k : X θ κ Φ st (pc + 1) lo2 stk) : X θ κ Φ st pc lo (v :: stk) := by
  obtain ⟨p, l, e, R, s, m, args, below, meth, c, st0⟩ := κ
  obtain ⟨hx, hb, hml, hown, hts, hr, hlk, htb, hK, hW0, hR, hst, hnm⟩ := C
  rcases hv with rfl | ⟨a, rfl⟩
  · intro H locs ls cells slots hW hE hl hS
    rw [hml] at hl
    exact lv_astore_nN hx hb dg hi hl hn hlo (fun ls2 hl2 => k H locs ls2 cells slots hW hE (by rw [hml]; exact hl2) hS)
  · intro H locs ls cells slots hW hE hl hS
    rw [hml] at hl
    exact lv_astore_n hx hb dg hi hl hn hlo (fun ls2 hl2 => k H locs ls2 cells slots hW hE (by rw [hml]; exact hl2) hS)
theorem X_astore (C : Cx θ κ y cc nL ret hh d) {i : Nat} {v : Value} (dg : decode cc pc = .ok (.astore i, 2)) (hv : isRV v) {lo2 : List (Nat × Value)} (hn : i < nL) (hlo : (i, v) :: lo.filter (fun q : Nat × Value => !(q.1 == i) && !(q.1 + 1 == i && q.2.category == 2)) = lo2) (k : X θ κ Φ st (pc + 2) lo2 stk) : X θ κ Φ st pc lo (v :: stk) := by
  obtain ⟨p, l, e, R, s, m, args, below, meth, c, st0⟩ := κ
  obtain ⟨hx, hb, hml, hown, hts, hr, hlk, htb, hK, hW0, hR, hst, hnm⟩ := C
  rcases hv with rfl | ⟨a, rfl⟩
  · intro H locs ls cells slots hW hE hl hS
    rw [hml] at hl
    exact lv_astoreN hx hb dg hl hn hlo (fun ls2 hl2 => k H locs ls2 cells slots hW hE (by rw [hml]; exact hl2) hS)
  · intro H locs ls cells slots hW hE hl hS
    rw [hml] at hl
    exact lv_astore hx hb dg hl hn hlo (fun ls2 hl2 => k H locs ls2 cells slots hW hE (by rw [hml]; exact hl2) hS)
theorem X_iinc (C : Cx θ κ y cc nL ret hh d) {i j : Nat} {n : Int} {x v : Int32} (dg : decode cc pc = .ok (.iinc i n, 3)) (hj : lo[j]? = some (i, .int x)) (hv : x + Int32.ofInt n = v) {lo2 : List (Nat × Value)} (hn : i < nL) (hlo : (i, .int v) :: lo.filter (fun q : Nat × Value => !(q.1 == i) && !(q.1 + 1 == i && q.2.category == 2)) = lo2) (k : X θ κ Φ st (pc + 3) lo2 stk) : X θ κ Φ st pc lo stk := by
  obtain ⟨p, l, e, R, s, m, args, below, meth, c, st0⟩ := κ
  obtain ⟨hx, hb, hml, hown, hts, hr, hlk, htb, hK, hW0, hR, hst, hnm⟩ := C
  intro H locs ls cells slots hW hE hl hS
  rw [hml] at hl
  exact lv_iinc hx hb dg hl hj hv hn hlo (fun ls2 hl2 => k H locs ls2 cells slots hW hE (by rw [hml]; exact hl2) hS)
theorem X_iadd (C : Cx θ κ y cc nL ret hh d) {a b : Int32} (dg : decode cc pc = .ok (.iadd, 1)) (k : X θ κ Φ st (pc + 1) lo (.int (a + b) :: stk)) : X θ κ Φ st pc lo (.int b :: .int a :: stk) := by
  obtain ⟨p, l, e, R, s, m, args, below, meth, c, st0⟩ := κ
  obtain ⟨hx, hb, hml, hown, hts, hr, hlk, htb, hK, hW0, hR, hst, hnm⟩ := C
  intro H locs ls cells slots hW hE hl hS
  exact lv_iadd hx hb dg (k H locs ls cells slots hW hE hl hS)
theorem X_isub (C : Cx θ κ y cc nL ret hh d) {a b : Int32} (dg : decode cc pc = .ok (.isub, 1)) (k : X θ κ Φ st (pc + 1) lo (.int (a - b) :: stk)) : X θ κ Φ st pc lo (.int b :: .int a :: stk) := by
  obtain ⟨p, l, e, R, s, m, args, below, meth, c, st0⟩ := κ
  obtain ⟨hx, hb, hml, hown, hts, hr, hlk, htb, hK, hW0, hR, hst, hnm⟩ := C
  intro H locs ls cells slots hW hE hl hS
  exact lv_isub hx hb dg (k H locs ls cells slots hW hE hl hS)
theorem X_imul (C : Cx θ κ y cc nL ret hh d) {a b : Int32} (dg : decode cc pc = .ok (.imul, 1)) (k : X θ κ Φ st (pc + 1) lo (.int (a * b) :: stk)) : X θ κ Φ st pc lo (.int b :: .int a :: stk) := by
  obtain ⟨p, l, e, R, s, m, args, below, meth, c, st0⟩ := κ
  obtain ⟨hx, hb, hml, hown, hts, hr, hlk, htb, hK, hW0, hR, hst, hnm⟩ := C
  intro H locs ls cells slots hW hE hl hS
  exact lv_imul hx hb dg (k H locs ls cells slots hW hE hl hS)
theorem X_iand (C : Cx θ κ y cc nL ret hh d) {a b : Int32} (dg : decode cc pc = .ok (.iand, 1)) (k : X θ κ Φ st (pc + 1) lo (.int (a &&& b) :: stk)) : X θ κ Φ st pc lo (.int b :: .int a :: stk) := by
  obtain ⟨p, l, e, R, s, m, args, below, meth, c, st0⟩ := κ
  obtain ⟨hx, hb, hml, hown, hts, hr, hlk, htb, hK, hW0, hR, hst, hnm⟩ := C
  intro H locs ls cells slots hW hE hl hS
  exact lv_iand hx hb dg (k H locs ls cells slots hW hE hl hS)
theorem X_ior (C : Cx θ κ y cc nL ret hh d) {a b : Int32} (dg : decode cc pc = .ok (.ior, 1)) (k : X θ κ Φ st (pc + 1) lo (.int (a ||| b) :: stk)) : X θ κ Φ st pc lo (.int b :: .int a :: stk) := by
  obtain ⟨p, l, e, R, s, m, args, below, meth, c, st0⟩ := κ
  obtain ⟨hx, hb, hml, hown, hts, hr, hlk, htb, hK, hW0, hR, hst, hnm⟩ := C
  intro H locs ls cells slots hW hE hl hS
  exact lv_ior hx hb dg (k H locs ls cells slots hW hE hl hS)
theorem X_ixor (C : Cx θ κ y cc nL ret hh d) {a b : Int32} (dg : decode cc pc = .ok (.ixor, 1)) (k : X θ κ Φ st (pc + 1) lo (.int (a ^^^ b) :: stk)) : X θ κ Φ st pc lo (.int b :: .int a :: stk) := by
  obtain ⟨p, l, e, R, s, m, args, below, meth, c, st0⟩ := κ
  obtain ⟨hx, hb, hml, hown, hts, hr, hlk, htb, hK, hW0, hR, hst, hnm⟩ := C
  intro H locs ls cells slots hW hE hl hS
  exact lv_ixor hx hb dg (k H locs ls cells slots hW hE hl hS)
theorem X_ishl (C : Cx θ κ y cc nL ret hh d) {a b : Int32} (dg : decode cc pc = .ok (.ishl, 1)) (k : X θ κ Φ st (pc + 1) lo (.int (a <<< (b &&& 31)) :: stk)) : X θ κ Φ st pc lo (.int b :: .int a :: stk) := by
  obtain ⟨p, l, e, R, s, m, args, below, meth, c, st0⟩ := κ
  obtain ⟨hx, hb, hml, hown, hts, hr, hlk, htb, hK, hW0, hR, hst, hnm⟩ := C
  intro H locs ls cells slots hW hE hl hS
  exact lv_ishl hx hb dg (k H locs ls cells slots hW hE hl hS)
theorem X_ishr (C : Cx θ κ y cc nL ret hh d) {a b : Int32} (dg : decode cc pc = .ok (.ishr, 1)) (k : X θ κ Φ st (pc + 1) lo (.int (a >>> (b &&& 31)) :: stk)) : X θ κ Φ st pc lo (.int b :: .int a :: stk) := by
  obtain ⟨p, l, e, R, s, m, args, below, meth, c, st0⟩ := κ
  obtain ⟨hx, hb, hml, hown, hts, hr, hlk, htb, hK, hW0, hR, hst, hnm⟩ := C
  intro H locs ls cells slots hW hE hl hS
  exact lv_ishr hx hb dg (k H locs ls cells slots hW hE hl hS)
theorem X_ladd (C : Cx θ κ y cc nL ret hh d) {a b : Int64} (dg : decode cc pc = .ok (.ladd, 1)) (k : X θ κ Φ st (pc + 1) lo (.long (a + b) :: stk)) : X θ κ Φ st pc lo (.long b :: .long a :: stk) := by
  obtain ⟨p, l, e, R, s, m, args, below, meth, c, st0⟩ := κ
  obtain ⟨hx, hb, hml, hown, hts, hr, hlk, htb, hK, hW0, hR, hst, hnm⟩ := C
  intro H locs ls cells slots hW hE hl hS
  exact lv_ladd hx hb dg (k H locs ls cells slots hW hE hl hS)
theorem X_lsub (C : Cx θ κ y cc nL ret hh d) {a b : Int64} (dg : decode cc pc = .ok (.lsub, 1)) (k : X θ κ Φ st (pc + 1) lo (.long (a - b) :: stk)) : X θ κ Φ st pc lo (.long b :: .long a :: stk) := by
  obtain ⟨p, l, e, R, s, m, args, below, meth, c, st0⟩ := κ
  obtain ⟨hx, hb, hml, hown, hts, hr, hlk, htb, hK, hW0, hR, hst, hnm⟩ := C
  intro H locs ls cells slots hW hE hl hS
  exact lv_lsub hx hb dg (k H locs ls cells slots hW hE hl hS)
theorem X_lmul (C : Cx θ κ y cc nL ret hh d) {a b : Int64} (dg : decode cc pc = .ok (.lmul, 1)) (k : X θ κ Φ st (pc + 1) lo (.long (a * b) :: stk)) : X θ κ Φ st pc lo (.long b :: .long a :: stk) := by
  obtain ⟨p, l, e, R, s, m, args, below, meth, c, st0⟩ := κ
  obtain ⟨hx, hb, hml, hown, hts, hr, hlk, htb, hK, hW0, hR, hst, hnm⟩ := C
  intro H locs ls cells slots hW hE hl hS
  exact lv_lmul hx hb dg (k H locs ls cells slots hW hE hl hS)
theorem X_land (C : Cx θ κ y cc nL ret hh d) {a b : Int64} (dg : decode cc pc = .ok (.land, 1)) (k : X θ κ Φ st (pc + 1) lo (.long (a &&& b) :: stk)) : X θ κ Φ st pc lo (.long b :: .long a :: stk) := by
  obtain ⟨p, l, e, R, s, m, args, below, meth, c, st0⟩ := κ
  obtain ⟨hx, hb, hml, hown, hts, hr, hlk, htb, hK, hW0, hR, hst, hnm⟩ := C
  intro H locs ls cells slots hW hE hl hS
  exact lv_land hx hb dg (k H locs ls cells slots hW hE hl hS)
theorem X_lor (C : Cx θ κ y cc nL ret hh d) {a b : Int64} (dg : decode cc pc = .ok (.lor, 1)) (k : X θ κ Φ st (pc + 1) lo (.long (a ||| b) :: stk)) : X θ κ Φ st pc lo (.long b :: .long a :: stk) := by
  obtain ⟨p, l, e, R, s, m, args, below, meth, c, st0⟩ := κ
  obtain ⟨hx, hb, hml, hown, hts, hr, hlk, htb, hK, hW0, hR, hst, hnm⟩ := C
  intro H locs ls cells slots hW hE hl hS
  exact lv_lor hx hb dg (k H locs ls cells slots hW hE hl hS)
theorem X_lxor (C : Cx θ κ y cc nL ret hh d) {a b : Int64} (dg : decode cc pc = .ok (.lxor, 1)) (k : X θ κ Φ st (pc + 1) lo (.long (a ^^^ b) :: stk)) : X θ κ Φ st pc lo (.long b :: .long a :: stk) := by
  obtain ⟨p, l, e, R, s, m, args, below, meth, c, st0⟩ := κ
  obtain ⟨hx, hb, hml, hown, hts, hr, hlk, htb, hK, hW0, hR, hst, hnm⟩ := C
  intro H locs ls cells slots hW hE hl hS
  exact lv_lxor hx hb dg (k H locs ls cells slots hW hE hl hS)
theorem X_idiv (C : Cx θ κ y cc nL ret hh d) {a b : Int32} (dg : decode cc pc = .ok (.idiv, 1)) (h0 : ¬ b = 0) (k : X θ κ Φ st (pc + 1) lo (.int (a / b) :: stk)) : X θ κ Φ st pc lo (.int b :: .int a :: stk) := by
  obtain ⟨p, l, e, R, s, m, args, below, meth, c, st0⟩ := κ
  obtain ⟨hx, hb, hml, hown, hts, hr, hlk, htb, hK, hW0, hR, hst, hnm⟩ := C
  intro H locs ls cells slots hW hE hl hS
  exact lv_idiv hx hb dg h0 (k H locs ls cells slots hW hE hl hS)
theorem X_irem (C : Cx θ κ y cc nL ret hh d) {a b : Int32} (dg : decode cc pc = .ok (.irem, 1)) (h0 : ¬ b = 0) (k : X θ κ Φ st (pc + 1) lo (.int (a - a / b * b) :: stk)) : X θ κ Φ st pc lo (.int b :: .int a :: stk) := by
  obtain ⟨p, l, e, R, s, m, args, below, meth, c, st0⟩ := κ
  obtain ⟨hx, hb, hml, hown, hts, hr, hlk, htb, hK, hW0, hR, hst, hnm⟩ := C
  intro H locs ls cells slots hW hE hl hS
  exact lv_irem hx hb dg h0 (k H locs ls cells slots hW hE hl hS)
theorem X_ldiv (C : Cx θ κ y cc nL ret hh d) {a b : Int64} (dg : decode cc pc = .ok (.ldiv, 1)) (h0 : ¬ b = 0) (k : X θ κ Φ st (pc + 1) lo (.long (a / b) :: stk)) : X θ κ Φ st pc lo (.long b :: .long a :: stk) := by
  obtain ⟨p, l, e, R, s, m, args, below, meth, c, st0⟩ := κ
  obtain ⟨hx, hb, hml, hown, hts, hr, hlk, htb, hK, hW0, hR, hst, hnm⟩ := C
  intro H locs ls cells slots hW hE hl hS
  exact lv_ldiv hx hb dg h0 (k H locs ls cells slots hW hE hl hS)
theorem X_lrem (C : Cx θ κ y cc nL ret hh d) {a b : Int64} (dg : decode cc pc = .ok (.lrem, 1)) (h0 : ¬ b = 0) (k : X θ κ Φ st (pc + 1) lo (.long (a - a / b * b) :: stk)) : X θ κ Φ st pc lo (.long b :: .long a :: stk) := by
  obtain ⟨p, l, e, R, s, m, args, below, meth, c, st0⟩ := κ
  obtain ⟨hx, hb, hml, hown, hts, hr, hlk, htb, hK, hW0, hR, hst, hnm⟩ := C
  intro H locs ls cells slots hW hE hl hS
  exact lv_lrem hx hb dg h0 (k H locs ls cells slots hW hE hl hS)
theorem X_ineg (C : Cx θ κ y cc nL ret hh d) {a : Int32} (dg : decode cc pc = .ok (.ineg, 1)) (k : X θ κ Φ st (pc + 1) lo (.int (-a) :: stk)) : X θ κ Φ st pc lo (.int a :: stk) := by
  obtain ⟨p, l, e, R, s, m, args, below, meth, c, st0⟩ := κ
  obtain ⟨hx, hb, hml, hown, hts, hr, hlk, htb, hK, hW0, hR, hst, hnm⟩ := C
  intro H locs ls cells slots hW hE hl hS
  exact lv_ineg hx hb dg (k H locs ls cells slots hW hE hl hS)
theorem X_lneg (C : Cx θ κ y cc nL ret hh d) {a : Int64} (dg : decode cc pc = .ok (.lneg, 1)) (k : X θ κ Φ st (pc + 1) lo (.long (-a) :: stk)) : X θ κ Φ st pc lo (.long a :: stk) := by
  obtain ⟨p, l, e, R, s, m, args, below, meth, c, st0⟩ := κ
  obtain ⟨hx, hb, hml, hown, hts, hr, hlk, htb, hK, hW0, hR, hst, hnm⟩ := C
  intro H locs ls cells slots hW hE hl hS
  exact lv_lneg hx hb dg (k H locs ls cells slots hW hE hl hS)
theorem X_iushr (C : Cx θ κ y cc nL ret hh d) {a b : Int32} (dg : decode cc pc = .ok (.iushr, 1)) (k : X θ κ Φ st (pc + 1) lo (.int ((a.toUInt32 >>> (b.toUInt32 &&& Int32.toUInt32 31)).toInt32) :: stk)) : X θ κ Φ st pc lo (.int b :: .int a :: stk) := by
  obtain ⟨p, l, e, R, s, m, args, below, meth, c, st0⟩ := κ
  obtain ⟨hx, hb, hml, hown, hts, hr, hlk, htb, hK, hW0, hR, hst, hnm⟩ := C
  intro H locs ls cells slots hW hE hl hS
  exact lv_iushr hx hb dg rfl (k H locs ls cells slots hW hE hl hS)
theorem X_lshl (C : Cx θ κ y cc nL ret hh d) {a : Int64} {b : Int32} (dg : decode cc pc = .ok (.lshl, 1)) (k : X θ κ Φ st (pc + 1) lo (.long (a <<< (b.toInt64 &&& 63)) :: stk)) : X θ κ Φ st pc lo (.int b :: .long a :: stk) := by
  obtain ⟨p, l, e, R, s, m, args, below, meth, c, st0⟩ := κ
  obtain ⟨hx, hb, hml, hown, hts, hr, hlk, htb, hK, hW0, hR, hst, hnm⟩ := C
  intro H locs ls cells slots hW hE hl hS
  exact lv_lshl hx hb dg rfl (k H locs ls cells slots hW hE hl hS)
theorem X_lshr (C : Cx θ κ y cc nL ret hh d) {a : Int64} {b : Int32} (dg : decode cc pc = .ok (.lshr, 1)) (k : X θ κ Φ st (pc + 1) lo (.long (a >>> (b.toInt64 &&& 63)) :: stk)) : X θ κ Φ st pc lo (.int b :: .long a :: stk) := by
  obtain ⟨p, l, e, R, s, m, args, below, meth, c, st0⟩ := κ
  obtain ⟨hx, hb, hml, hown, hts, hr, hlk, htb, hK, hW0, hR, hst, hnm⟩ := C
  intro H locs ls cells slots hW hE hl hS
  exact lv_lshr hx hb dg rfl (k H locs ls cells slots hW hE hl hS)
theorem X_lushr (C : Cx θ κ y cc nL ret hh d) {a : Int64} {b : Int32} (dg : decode cc pc = .ok (.lushr, 1)) (k : X θ κ Φ st (pc + 1) lo (.long ((a.toUInt64 >>> (b.toInt64.toUInt64 &&& Int64.toUInt64 63)).toInt64) :: stk)) : X θ κ Φ st pc lo (.int b :: .long a :: stk) := by
  obtain ⟨p, l, e, R, s, m, args, below, meth, c, st0⟩ := κ
  obtain ⟨hx, hb, hml, hown, hts, hr, hlk, htb, hK, hW0, hR, hst, hnm⟩ := C
  intro H locs ls cells slots hW hE hl hS
  exact lv_lushr hx hb dg rfl (k H locs ls cells slots hW hE hl hS)
theorem X_i2l (C : Cx θ κ y cc nL ret hh d) {a : Int32} (dg : decode cc pc = .ok (.i2l, 1)) (k : X θ κ Φ st (pc + 1) lo (.long a.toInt64 :: stk)) : X θ κ Φ st pc lo (.int a :: stk) := by
  obtain ⟨p, l, e, R, s, m, args, below, meth, c, st0⟩ := κ
  obtain ⟨hx, hb, hml, hown, hts, hr, hlk, htb, hK, hW0, hR, hst, hnm⟩ := C
  intro H locs ls cells slots hW hE hl hS
  exact lv_i2l hx hb dg rfl (k H locs ls cells slots hW hE hl hS)
theorem X_l2i (C : Cx θ κ y cc nL ret hh d) {a : Int64} (dg : decode cc pc = .ok (.l2i, 1)) (k : X θ κ Φ st (pc + 1) lo (.int a.toInt32 :: stk)) : X θ κ Φ st pc lo (.long a :: stk) := by
  obtain ⟨p, l, e, R, s, m, args, below, meth, c, st0⟩ := κ
  obtain ⟨hx, hb, hml, hown, hts, hr, hlk, htb, hK, hW0, hR, hst, hnm⟩ := C
  intro H locs ls cells slots hW hE hl hS
  exact lv_l2i hx hb dg rfl (k H locs ls cells slots hW hE hl hS)
theorem X_i2s (C : Cx θ κ y cc nL ret hh d) {a : Int32} (dg : decode cc pc = .ok (.i2s, 1)) (k : X θ κ Φ st (pc + 1) lo (.int a.toInt16.toInt32 :: stk)) : X θ κ Φ st pc lo (.int a :: stk) := by
  obtain ⟨p, l, e, R, s, m, args, below, meth, c, st0⟩ := κ
  obtain ⟨hx, hb, hml, hown, hts, hr, hlk, htb, hK, hW0, hR, hst, hnm⟩ := C
  intro H locs ls cells slots hW hE hl hS
  exact lv_i2s hx hb dg rfl (k H locs ls cells slots hW hE hl hS)
theorem X_i2b (C : Cx θ κ y cc nL ret hh d) {a : Int32} (dg : decode cc pc = .ok (.i2b, 1)) (k : X θ κ Φ st (pc + 1) lo (.int a.toInt8.toInt32 :: stk)) : X θ κ Φ st pc lo (.int a :: stk) := by
  obtain ⟨p, l, e, R, s, m, args, below, meth, c, st0⟩ := κ
  obtain ⟨hx, hb, hml, hown, hts, hr, hlk, htb, hK, hW0, hR, hst, hnm⟩ := C
  intro H locs ls cells slots hW hE hl hS
  exact lv_i2b hx hb dg rfl (k H locs ls cells slots hW hE hl hS)
theorem X_i2c (C : Cx θ κ y cc nL ret hh d) {a : Int32} (dg : decode cc pc = .ok (.i2c, 1)) (k : X θ κ Φ st (pc + 1) lo (.int (a.toUInt32 % 65536).toInt32 :: stk)) : X θ κ Φ st pc lo (.int a :: stk) := by
  obtain ⟨p, l, e, R, s, m, args, below, meth, c, st0⟩ := κ
  obtain ⟨hx, hb, hml, hown, hts, hr, hlk, htb, hK, hW0, hR, hst, hnm⟩ := C
  intro H locs ls cells slots hW hE hl hS
  exact lv_i2c hx hb dg rfl (k H locs ls cells slots hW hE hl hS)
theorem X_dup (C : Cx θ κ y cc nL ret hh d) {v : Value} (dg : decode cc pc = .ok (.dup, 1)) (hv : v.category = 1) (k : X θ κ Φ st (pc + 1) lo (v :: v :: stk)) : X θ κ Φ st pc lo (v :: stk) := by
  obtain ⟨p, l, e, R, s, m, args, below, meth, c, st0⟩ := κ
  obtain ⟨hx, hb, hml, hown, hts, hr, hlk, htb, hK, hW0, hR, hst, hnm⟩ := C
  intro H locs ls cells slots hW hE hl hS
  exact lv_dup hx hb dg hv (k H locs ls cells slots hW hE hl hS)
theorem X_pop (C : Cx θ κ y cc nL ret hh d) {v : Value} (dg : decode cc pc = .ok (.pop, 1)) (hv : v.category = 1) (k : X θ κ Φ st (pc + 1) lo (stk)) : X θ κ Φ st pc lo (v :: stk) := by
  obtain ⟨p, l, e, R, s, m, args, below, meth, c, st0⟩ := κ
  obtain ⟨hx, hb, hml, hown, hts, hr, hlk, htb, hK, hW0, hR, hst, hnm⟩ := C
  intro H locs ls cells slots hW hE hl hS
  exact lv_pop hx hb dg hv (k H locs ls cells slots hW hE hl hS)
theorem X_dup_x1 (C : Cx θ κ y cc nL ret hh d) {v v2 : Value} (dg : decode cc pc = .ok (.dup_x1, 1)) (hv : v.category = 1) (hv2 : v2.category = 1) (k : X θ κ Φ st (pc + 1) lo (v :: v2 :: v :: stk)) : X θ κ Φ st pc lo (v :: v2 :: stk) := by
  obtain ⟨p, l, e, R, s, m, args, below, meth, c, st0⟩ := κ
  obtain ⟨hx, hb, hml, hown, hts, hr, hlk, htb, hK, hW0, hR, hst, hnm⟩ := C
  intro H locs ls cells slots hW hE hl hS
  exact lv_dup_x1 hx hb dg hv hv2 (k H locs ls cells slots hW hE hl hS)
theorem X_dup_x2 (C : Cx θ κ y cc nL ret hh d) {v v2 v3 : Value} (dg : decode cc pc = .ok (.dup_x2, 1)) (hv : v.category = 1) (hv2 : v2.category = 1) (hv3 : v3.category = 1) (k : X θ κ Φ st (pc + 1) lo (v :: v2 :: v3 :: v :: stk)) : X θ κ Φ st pc lo (v :: v2 :: v3 :: stk) := by
  obtain ⟨p, l, e, R, s, m, args, below, meth, c, st0⟩ := κ
  obtain ⟨hx, hb, hml, hown, hts, hr, hlk, htb, hK, hW0, hR, hst, hnm⟩ := C
  intro H locs ls cells slots hW hE hl hS
  exact lv_dup_x2 hx hb dg hv hv2 hv3 (k H locs ls cells slots hW hE hl hS)
theorem X_dup2 (C : Cx θ κ y cc nL ret hh d) {v v2 : Value} (dg : decode cc pc = .ok (.dup2, 1)) (hv : v.category = 1) (hv2 : v2.category = 1) (k : X θ κ Φ st (pc + 1) lo (v :: v2 :: v :: v2 :: stk)) : X θ κ Φ st pc lo (v :: v2 :: stk) := by
  obtain ⟨p, l, e, R, s, m, args, below, meth, c, st0⟩ := κ
  obtain ⟨hx, hb, hml, hown, hts, hr, hlk, htb, hK, hW0, hR, hst, hnm⟩ := C
  intro H locs ls cells slots hW hE hl hS
  exact lv_dup2_11 hx hb dg hv hv2 (k H locs ls cells slots hW hE hl hS)
theorem X_dup2w (C : Cx θ κ y cc nL ret hh d) {v : Value} (dg : decode cc pc = .ok (.dup2, 1)) (hv : v.category = 2) (k : X θ κ Φ st (pc + 1) lo (v :: v :: stk)) : X θ κ Φ st pc lo (v :: stk) := by
  obtain ⟨p, l, e, R, s, m, args, below, meth, c, st0⟩ := κ
  obtain ⟨hx, hb, hml, hown, hts, hr, hlk, htb, hK, hW0, hR, hst, hnm⟩ := C
  intro H locs ls cells slots hW hE hl hS
  exact lv_dup2_2 hx hb dg hv (k H locs ls cells slots hW hE hl hS)
theorem X_pop2w (C : Cx θ κ y cc nL ret hh d) {v : Value} (dg : decode cc pc = .ok (.pop2, 1)) (hv : v.category = 2) (k : X θ κ Φ st (pc + 1) lo (stk)) : X θ κ Φ st pc lo (v :: stk) := by
  obtain ⟨p, l, e, R, s, m, args, below, meth, c, st0⟩ := κ
  obtain ⟨hx, hb, hml, hown, hts, hr, hlk, htb, hK, hW0, hR, hst, hnm⟩ := C
  intro H locs ls cells slots hW hE hl hS
  exact lv_pop2_2 hx hb dg hv (k H locs ls cells slots hW hE hl hS)
theorem X_pop2 (C : Cx θ κ y cc nL ret hh d) {v v2 : Value} (dg : decode cc pc = .ok (.pop2, 1)) (hv : v.category = 1) (hv2 : v2.category = 1) (k : X θ κ Φ st (pc + 1) lo (stk)) : X θ κ Φ st pc lo (v :: v2 :: stk) := by
  obtain ⟨p, l, e, R, s, m, args, below, meth, c, st0⟩ := κ
  obtain ⟨hx, hb, hml, hown, hts, hr, hlk, htb, hK, hW0, hR, hst, hnm⟩ := C
  intro H locs ls cells slots hW hE hl hS
  exact lv_pop2_11 hx hb dg hv hv2 (k H locs ls cells slots hW hE hl hS)
theorem X_goto (C : Cx θ κ y cc nL ret hh d) {off : Int} {tgt : Nat} (dg : decode cc pc = .ok (.goto off, 3)) (ht : (pc : Int) + off = (tgt : Int)) (k : X θ κ Φ st tgt lo stk) : X θ κ Φ st pc lo stk := by
  obtain ⟨p, l, e, R, s, m, args, below, meth, c, st0⟩ := κ
  obtain ⟨hx, hb, hml, hown, hts, hr, hlk, htb, hK, hW0, hR, hst, hnm⟩ := C
  intro H locs ls cells slots hW hE hl hS
  exact lv_goto hx hb dg ht (k H locs ls cells slots hW hE hl hS)
theorem X_if_eq (C : Cx θ κ y cc nL ret hh d) {a : Int32} {off : Int} {tgt : Nat} (dg : decode cc pc = .ok (.ifCond .eq off, 3)) (ht : (pc : Int) + off = (tgt : Int)) (kt : (a = 0) → X θ κ Φ st tgt lo stk) (kf : ¬ (a = 0) → X θ κ Φ st (pc + 3) lo stk) : X θ κ Φ st pc lo (.int a :: stk) := by
  obtain ⟨p, l, e, R, s, m, args, below, meth, c, st0⟩ := κ
  obtain ⟨hx, hb, hml, hown, hts, hr, hlk, htb, hK, hW0, hR, hst, hnm⟩ := C
  intro H locs ls cells slots hW hE hl hS
  exact lv_if_eq hx hb dg ht (fun q => kt q H locs ls cells slots hW hE hl hS) (fun q => kf q H locs ls cells slots hW hE hl hS)
theorem X_icmp_eq (C : Cx θ κ y cc nL ret hh d) {a b : Int32} {off : Int} {tgt : Nat} (dg : decode cc pc = .ok (.if_icmp .eq off, 3)) (ht : (pc : Int) + off = (tgt : Int)) (kt : (a = b) → X θ κ Φ st tgt lo stk) (kf : ¬ (a = b) → X θ κ Φ st (pc + 3) lo stk) : X θ κ Φ st pc lo (.int b :: .int a :: stk) := by
  obtain ⟨p, l, e, R, s, m, args, below, meth, c, st0⟩ := κ
  obtain ⟨hx, hb, hml, hown, hts, hr, hlk, htb, hK, hW0, hR, hst, hnm⟩ := C
  intro H locs ls cells slots hW hE hl hS
  exact lv_icmp_eq hx hb dg ht (fun q => kt q H locs ls cells slots hW hE hl hS) (fun q => kf q H locs ls cells slots hW hE hl hS)
theorem X_lcmp_eq (C : Cx θ κ y cc nL ret hh d) {a b : Int64} {off : Int} {tgt : Nat} (dg : decode cc pc = .ok (.lcmp, 1)) (dg2 : decode cc (pc + 1) = .ok (.ifCond .eq off, 3)) (ht : ((pc + 1 : Nat) : Int) + off = (tgt : Int)) (kt : (a = b) → X θ κ Φ st tgt lo stk) (kf : ¬ (a = b) → X θ κ Φ st (pc + 1 + 3) lo stk) : X θ κ Φ st pc lo (.long b :: .long a :: stk) := by
  obtain ⟨p, l, e, R, s, m, args, below, meth, c, st0⟩ := κ
  obtain ⟨hx, hb, hml, hown, hts, hr, hlk, htb, hK, hW0, hR, hst, hnm⟩ := C
  intro H locs ls cells slots hW hE hl hS
  exact W.lcmp hx hb dg (lv_if_eq hx hb dg2 ht (fun q => kt ((lg_cmp_eq a b).mp q) H locs ls cells slots hW hE hl hS) (fun q => kf (fun z => q ((lg_cmp_eq a b).mpr z)) H locs ls cells slots hW hE hl hS))
theorem X_if_ne (C : Cx θ κ y cc nL ret hh d) {a : Int32} {off : Int} {tgt : Nat} (dg : decode cc pc = .ok (.ifCond .ne off, 3)) (ht : (pc : Int) + off = (tgt : Int)) (kt : (a ≠ 0) → X θ κ Φ st tgt lo stk) (kf : (a = 0) → X θ κ Φ st (pc + 3) lo stk) : X θ κ Φ st pc lo (.int a :: stk) := by
  obtain ⟨p, l, e, R, s, m, args, below, meth, c, st0⟩ := κ
  obtain ⟨hx, hb, hml, hown, hts, hr, hlk, htb, hK, hW0, hR, hst, hnm⟩ := C
  intro H locs ls cells slots hW hE hl hS
  exact lv_if_ne hx hb dg ht (fun q => kt q H locs ls cells slots hW hE hl hS) (fun q => kf q H locs ls cells slots hW hE hl hS)
theorem X_icmp_ne (C : Cx θ κ y cc nL ret hh d) {a b : Int32} {off : Int} {tgt : Nat} (dg : decode cc pc = .ok (.if_icmp .ne off, 3)) (ht : (pc : Int) + off = (tgt : Int)) (kt : (a ≠ b) → X θ κ Φ st tgt lo stk) (kf : (a = b) → X θ κ Φ st (pc + 3) lo stk) : X θ κ Φ st pc lo (.int b :: .int a :: stk) := by
  obtain ⟨p, l, e, R, s, m, args, below, meth, c, st0⟩ := κ
  obtain ⟨hx, hb, hml, hown, hts, hr, hlk, htb, hK, hW0, hR, hst, hnm⟩ := C
  intro H locs ls cells slots hW hE hl hS
  exact lv_icmp_ne hx hb dg ht (fun q => kt q H locs ls cells slots hW hE hl hS) (fun q => kf q H locs ls cells slots hW hE hl hS)
theorem X_lcmp_ne (C : Cx θ κ y cc nL ret hh d) {a b : Int64} {off : Int} {tgt : Nat} (dg : decode cc pc = .ok (.lcmp, 1)) (dg2 : decode cc (pc + 1) = .ok (.ifCond .ne off, 3)) (ht : ((pc + 1 : Nat) : Int) + off = (tgt : Int)) (kt : (a ≠ b) → X θ κ Φ st tgt lo stk) (kf : (a = b) → X θ κ Φ st (pc + 1 + 3) lo stk) : X θ κ Φ st pc lo (.long b :: .long a :: stk) := by
  obtain ⟨p, l, e, R, s, m, args, below, meth, c, st0⟩ := κ
  obtain ⟨hx, hb, hml, hown, hts, hr, hlk, htb, hK, hW0, hR, hst, hnm⟩ := C
  intro H locs ls cells slots hW hE hl hS
  exact W.lcmp hx hb dg (lv_if_ne hx hb dg2 ht (fun q => kt ((not_congr (lg_cmp_eq a b)).mp q) H locs ls cells slots hW hE hl hS) (fun q => kf ((lg_cmp_eq a b).mp q) H locs ls cells slots hW hE hl hS))
theorem X_if_lt (C : Cx θ κ y cc nL ret hh d) {a : Int32} {off : Int} {tgt : Nat} (dg : decode cc pc = .ok (.ifCond .lt off, 3)) (ht : (pc : Int) + off = (tgt : Int)) (kt : (a < 0) → X θ κ Φ st tgt lo stk) (kf : ¬ (a < 0) → X θ κ Φ st (pc + 3) lo stk) : X θ κ Φ st pc lo (.int a :: stk) := by
  obtain ⟨p, l, e, R, s, m, args, below, meth, c, st0⟩ := κ
  obtain ⟨hx, hb, hml, hown, hts, hr, hlk, htb, hK, hW0, hR, hst, hnm⟩ := C
  intro H locs ls cells slots hW hE hl hS
  exact lv_if_lt hx hb dg ht (fun q => kt q H locs ls cells slots hW hE hl hS) (fun q => kf q H locs ls cells slots hW hE hl hS)
theorem X_icmp_lt (C : Cx θ κ y cc nL ret hh d) {a b : Int32} {off : Int} {tgt : Nat} (dg : decode cc pc = .ok (.if_icmp .lt off, 3)) (ht : (pc : Int) + off = (tgt : Int)) (kt : (a < b) → X θ κ Φ st tgt lo stk) (kf : ¬ (a < b) → X θ κ Φ st (pc + 3) lo stk) : X θ κ Φ st pc lo (.int b :: .int a :: stk) := by
  obtain ⟨p, l, e, R, s, m, args, below, meth, c, st0⟩ := κ
  obtain ⟨hx, hb, hml, hown, hts, hr, hlk, htb, hK, hW0, hR, hst, hnm⟩ := C
  intro H locs ls cells slots hW hE hl hS
  exact lv_icmp_lt hx hb dg ht (fun q => kt q H locs ls cells slots hW hE hl hS) (fun q => kf q H locs ls cells slots hW hE hl hS)
theorem X_lcmp_lt (C : Cx θ κ y cc nL ret hh d) {a b : Int64} {off : Int} {tgt : Nat} (dg : decode cc pc = .ok (.lcmp, 1)) (dg2 : decode cc (pc + 1) = .ok (.ifCond .lt off, 3)) (ht : ((pc + 1 : Nat) : Int) + off = (tgt : Int)) (kt : (a < b) → X θ κ Φ st tgt lo stk) (kf : ¬ (a < b) → X θ κ Φ st (pc + 1 + 3) lo stk) : X θ κ Φ st pc lo (.long b :: .long a :: stk) := by
  obtain ⟨p, l, e, R, s, m, args, below, meth, c, st0⟩ := κ
  obtain ⟨hx, hb, hml, hown, hts, hr, hlk, htb, hK, hW0, hR, hst, hnm⟩ := C
  intro H locs ls cells slots hW hE hl hS
  exact W.lcmp hx hb dg (lv_if_lt hx hb dg2 ht (fun q => kt ((lg_cmp_lt a b).mp q) H locs ls cells slots hW hE hl hS) (fun q => kf (fun z => q ((lg_cmp_lt a b).mpr z)) H locs ls cells slots hW hE hl hS))
theorem X_if_ge (C : Cx θ κ y cc nL ret hh d) {a : Int32} {off : Int} {tgt : Nat} (dg : decode cc pc = .ok (.ifCond .ge off, 3)) (ht : (pc : Int) + off = (tgt : Int)) (kt : (0 ≤ a) → X θ κ Φ st tgt lo stk) (kf : ¬ (0 ≤ a) → X θ κ Φ st (pc + 3) lo stk) : X θ κ Φ st pc lo (.int a :: stk) := by
  obtain ⟨p, l, e, R, s, m, args, below, meth, c, st0⟩ := κ
  obtain ⟨hx, hb, hml, hown, hts, hr, hlk, htb, hK, hW0, hR, hst, hnm⟩ := C
  intro H locs ls cells slots hW hE hl hS
  exact lv_if_ge hx hb dg ht (fun q => kt q H locs ls cells slots hW hE hl hS) (fun q => kf q H locs ls cells slots hW hE hl hS)
theorem X_icmp_ge (C : Cx θ κ y cc nL ret hh d) {a b : Int32} {off : Int} {tgt : Nat} (dg : decode cc pc = .ok (.if_icmp .ge off, 3)) (ht : (pc : Int) + off = (tgt : Int)) (kt : (b ≤ a) → X θ κ Φ st tgt lo stk) (kf : ¬ (b ≤ a) → X θ κ Φ st (pc + 3) lo stk) : X θ κ Φ st pc lo (.int b :: .int a :: stk) := by
  obtain ⟨p, l, e, R, s, m, args, below, meth, c, st0⟩ := κ
  obtain ⟨hx, hb, hml, hown, hts, hr, hlk, htb, hK, hW0, hR, hst, hnm⟩ := C
  intro H locs ls cells slots hW hE hl hS
  exact lv_icmp_ge hx hb dg ht (fun q => kt q H locs ls cells slots hW hE hl hS) (fun q => kf q H locs ls cells slots hW hE hl hS)
theorem X_lcmp_ge (C : Cx θ κ y cc nL ret hh d) {a b : Int64} {off : Int} {tgt : Nat} (dg : decode cc pc = .ok (.lcmp, 1)) (dg2 : decode cc (pc + 1) = .ok (.ifCond .ge off, 3)) (ht : ((pc + 1 : Nat) : Int) + off = (tgt : Int)) (kt : (b ≤ a) → X θ κ Φ st tgt lo stk) (kf : ¬ (b ≤ a) → X θ κ Φ st (pc + 1 + 3) lo stk) : X θ κ Φ st pc lo (.long b :: .long a :: stk) := by
  obtain ⟨p, l, e, R, s, m, args, below, meth, c, st0⟩ := κ
  obtain ⟨hx, hb, hml, hown, hts, hr, hlk, htb, hK, hW0, hR, hst, hnm⟩ := C
  intro H locs ls cells slots hW hE hl hS
  exact W.lcmp hx hb dg (lv_if_ge hx hb dg2 ht (fun q => kt ((lg_cmp_ge a b).mp q) H locs ls cells slots hW hE hl hS) (fun q => kf (fun z => q ((lg_cmp_ge a b).mpr z)) H locs ls cells slots hW hE hl hS))
theorem X_if_gt (C : Cx θ κ y cc nL ret hh d) {a : Int32} {off : Int} {tgt : Nat} (dg : decode cc pc = .ok (.ifCond .gt off, 3)) (ht : (pc : Int) + off = (tgt : Int)) (kt : (0 < a) → X θ κ Φ st tgt lo stk) (kf : ¬ (0 < a) → X θ κ Φ st (pc + 3) lo stk) : X θ κ Φ st pc lo (.int a :: stk) := by
  obtain ⟨p, l, e, R, s, m, args, below, meth, c, st0⟩ := κ
  obtain ⟨hx, hb, hml, hown, hts, hr, hlk, htb, hK, hW0, hR, hst, hnm⟩ := C
  intro H locs ls cells slots hW hE hl hS
  exact lv_if_gt hx hb dg ht (fun q => kt q H locs ls cells slots hW hE hl hS) (fun q => kf q H locs ls cells slots hW hE hl hS)
theorem X_icmp_gt (C : Cx θ κ y cc nL ret hh d) {a b : Int32} {off : Int} {tgt : Nat} (dg : decode cc pc = .ok (.if_icmp .gt off, 3)) (ht : (pc : Int) + off = (tgt : Int)) (kt : (b < a) → X θ κ Φ st tgt lo stk) (kf : ¬ (b < a) → X θ κ Φ st (pc + 3) lo stk) : X θ κ Φ st pc lo (.int b :: .int a :: stk) := by
  obtain ⟨p, l, e, R, s, m, args, below, meth, c, st0⟩ := κ
  obtain ⟨hx, hb, hml, hown, hts, hr, hlk, htb, hK, hW0, hR, hst, hnm⟩ := C
  intro H locs ls cells slots hW hE hl hS
  exact lv_icmp_gt hx hb dg ht (fun q => kt q H locs ls cells slots hW hE hl hS) (fun q => kf q H locs ls cells slots hW hE hl hS)
theorem X_lcmp_gt (C : Cx θ κ y cc nL ret hh d) {a b : Int64} {off : Int} {tgt : Nat} (dg : decode cc pc = .ok (.lcmp, 1)) (dg2 : decode cc (pc + 1) = .ok (.ifCond .gt off, 3)) (ht : ((pc + 1 : Nat) : Int) + off = (tgt : Int)) (kt : (b < a) → X θ κ Φ st tgt lo stk) (kf : ¬ (b < a) → X θ κ Φ st (pc + 1 + 3) lo stk) : X θ κ Φ st pc lo (.long b :: .long a :: stk) := by
  obtain ⟨p, l, e, R, s, m, args, below, meth, c, st0⟩ := κ
  obtain ⟨hx, hb, hml, hown, hts, hr, hlk, htb, hK, hW0, hR, hst, hnm⟩ := C
  intro H locs ls cells slots hW hE hl hS
  exact W.lcmp hx hb dg (lv_if_gt hx hb dg2 ht (fun q => kt ((lg_cmp_gt a b).mp q) H locs ls cells slots hW hE hl hS) (fun q => kf (fun z => q ((lg_cmp_gt a b).mpr z)) H locs ls cells slots hW hE hl hS))
theorem X_if_le (C : Cx θ κ y cc nL ret hh d) {a : Int32} {off : Int} {tgt : Nat} (dg : decode cc pc = .ok (.ifCond .le off, 3)) (ht : (pc : Int) + off = (tgt : Int)) (kt : (a ≤ 0) → X θ κ Φ st tgt lo stk) (kf : ¬ (a ≤ 0) → X θ κ Φ st (pc + 3) lo stk) : X θ κ Φ st pc lo (.int a :: stk) := by
  obtain ⟨p, l, e, R, s, m, args, below, meth, c, st0⟩ := κ
  obtain ⟨hx, hb, hml, hown, hts, hr, hlk, htb, hK, hW0, hR, hst, hnm⟩ := C
  intro H locs ls cells slots hW hE hl hS
  exact lv_if_le hx hb dg ht (fun q => kt q H locs ls cells slots hW hE hl hS) (fun q => kf q H locs ls cells slots hW hE hl hS)
theorem X_icmp_le (C : Cx θ κ y cc nL ret hh d) {a b : Int32} {off : Int} {tgt : Nat} (dg : decode cc pc = .ok (.if_icmp .le off, 3)) (ht : (pc : Int) + off = (tgt : Int)) (kt : (a ≤ b) → X θ κ Φ st tgt lo stk) (kf : ¬ (a ≤ b) → X θ κ Φ st (pc + 3) lo stk) : X θ κ Φ st pc lo (.int b :: .int a :: stk) := by
  obtain ⟨p, l, e, R, s, m, args, below, meth, c, st0⟩ := κ
  obtain ⟨hx, hb, hml, hown, hts, hr, hlk, htb, hK, hW0, hR, hst, hnm⟩ := C
  intro H locs ls cells slots hW hE hl hS
  exact lv_icmp_le hx hb dg ht (fun q => kt q H locs ls cells slots hW hE hl hS) (fun q => kf q H locs ls cells slots hW hE hl hS)
theorem X_lcmp_le (C : Cx θ κ y cc nL ret hh d) {a b : Int64} {off : Int} {tgt : Nat} (dg : decode cc pc = .ok (.lcmp, 1)) (dg2 : decode cc (pc + 1) = .ok (.ifCond .le off, 3)) (ht : ((pc + 1 : Nat) : Int) + off = (tgt : Int)) (kt : (a ≤ b) → X θ κ Φ st tgt lo stk) (kf : ¬ (a ≤ b) → X θ κ Φ st (pc + 1 + 3) lo stk) : X θ κ Φ st pc lo (.long b :: .long a :: stk) := by
  obtain ⟨p, l, e, R, s, m, args, below, meth, c, st0⟩ := κ
  obtain ⟨hx, hb, hml, hown, hts, hr, hlk, htb, hK, hW0, hR, hst, hnm⟩ := C
  intro H locs ls cells slots hW hE hl hS
  exact W.lcmp hx hb dg (lv_if_le hx hb dg2 ht (fun q => kt ((lg_cmp_le a b).mp q) H locs ls cells slots hW hE hl hS) (fun q => kf (fun z => q ((lg_cmp_le a b).mpr z)) H locs ls cells slots hW hE hl hS))
theorem X_ifnull (C : Cx θ κ y cc nL ret hh d) {v : Value} {off : Int} {tgt : Nat} (hv : isRV v) (dg : decode cc pc = .ok (.ifnull off, 3)) (ht : (pc : Int) + off = (tgt : Int)) (kt : v = .null → X θ κ Φ st tgt lo stk) (kf : ¬ v = .null → X θ κ Φ st (pc + 3) lo stk) : X θ κ Φ st pc lo (v :: stk) := by
  obtain ⟨p, l, e, R, s, m, args, below, meth, c, st0⟩ := κ
  obtain ⟨hx, hb, hml, hown, hts, hr, hlk, htb, hK, hW0, hR, hst, hnm⟩ := C
  rcases hv with rfl | ⟨a, rfl⟩
  · intro H locs ls cells slots hW hE hl hS
    exact lv_ifnullN hx hb dg ht (kt rfl H locs ls cells slots hW hE hl hS)
  · intro H locs ls cells slots hW hE hl hS
    exact lv_ifnull hx hb dg (kf (fun q => by cases q) H locs ls cells slots hW hE hl hS)
theorem X_ifnonnull (C : Cx θ κ y cc nL ret hh d) {v : Value} {off : Int} {tgt : Nat} (hv : isRV v) (dg : decode cc pc = .ok (.ifnonnull off, 3)) (ht : (pc : Int) + off = (tgt : Int)) (kt : ¬ v = .null → X θ κ Φ st tgt lo stk) (kf : v = .null → X θ κ Φ st (pc + 3) lo stk) : X θ κ Φ st pc lo (v :: stk) := by
  obtain ⟨p, l, e, R, s, m, args, below, meth, c, st0⟩ := κ
  obtain ⟨hx, hb, hml, hown, hts, hr, hlk, htb, hK, hW0, hR, hst, hnm⟩ := C
  rcases hv with rfl | ⟨a, rfl⟩
  · intro H locs ls cells slots hW hE hl hS
    exact lv_ifnonnullN hx hb dg (kf rfl H locs ls cells slots hW hE hl hS)
  · intro H locs ls cells slots hW hE hl hS
    exact lv_ifnonnull hx hb dg ht (kt (fun q => by cases q) H locs ls cells slots hW hE hl hS)
theorem X_tableOut (C : Cx θ κ y cc nL ret hh d) {dflt lo1 hi : Int} {offs : Array Int} {len : Nat} {x : Int32} {tgt : Nat} (dg : decode cc pc = .ok (.tableswitch dflt lo1 hi offs, len)) (h : x.toInt < lo1 ∨ hi < x.toInt) (ht : (pc : Int) + dflt = (tgt : Int)) (k : X θ κ Φ st tgt lo stk) : X θ κ Φ st pc lo (.int x :: stk) := by
  obtain ⟨p, l, e, R, s, m, args, below, meth, c, st0⟩ := κ
  obtain ⟨hx, hb, hml, hown, hts, hr, hlk, htb, hK, hW0, hR, hst, hnm⟩ := C
  intro H locs ls cells slots hW hE hl hS
  exact lv_tableOut hx hb dg h ht (k H locs ls cells slots hW hE hl hS)
theorem X_tableIn (C : Cx θ κ y cc nL ret hh d) {dflt lo1 hi : Int} {offs : Array Int} {len : Nat} {x : Int32} {off : Int} {tgt : Nat} (dg : decode cc pc = .ok (.tableswitch dflt lo1 hi offs, len)) (h1 : ¬ x.toInt < lo1) (h2 : ¬ hi < x.toInt) (ho : offs[(x.toInt - lo1).toNat]? = some off) (ht : (pc : Int) + off = (tgt : Int)) (k : X θ κ Φ st tgt lo stk) : X θ κ Φ st pc lo (.int x :: stk) := by
  obtain ⟨p, l, e, R, s, m, args, below, meth, c, st0⟩ := κ
  obtain ⟨hx, hb, hml, hown, hts, hr, hlk, htb, hK, hW0, hR, hst, hnm⟩ := C
  intro H locs ls cells slots hW hE hl hS
  exact lv_tableIn hx hb dg h1 h2 ho ht (k H locs ls cells slots hW hE hl hS)
theorem X_lookup (C : Cx θ κ y cc nL ret hh d) {dflt : Int} {ps : Array (Int × Int)} {len : Nat} {x : Int32} {off : Int} {tgt : Nat} (dg : decode cc pc = .ok (.lookupswitch dflt ps, len)) (hp : (ps.toList.zip (ps.toList.drop 1)).all (fun (a, next) => a.1 < next.1) = true) (ho : Op.lookupswitch.offset ps.toList dflt x.toInt = off) (ht : (pc : Int) + off = (tgt : Int)) (k : X θ κ Φ st tgt lo stk) : X θ κ Φ st pc lo (.int x :: stk) := by
  obtain ⟨p, l, e, R, s, m, args, below, meth, c, st0⟩ := κ
  obtain ⟨hx, hb, hml, hown, hts, hr, hlk, htb, hK, hW0, hR, hst, hnm⟩ := C
  intro H locs ls cells slots hW hE hl hS
  exact lv_lookup hx hb dg hp ho ht (k H locs ls cells slots hW hE hl hS)
/-- fewer locals, in another order, by their places -/
theorem X_sub (ks : List Nat) {lo2 : List (Nat × Value)} (h : lv_pick lo ks = lo2) (k : X θ κ Φ st pc lo2 stk) : X θ κ Φ st pc lo stk := by
  obtain ⟨p, l, e, R, s, m, args, below, meth, c, st0⟩ := κ
  intro H locs ls cells slots hW hE hl hS
  exact k H locs ls cells slots hW hE (lv_sub hl ks h) hS
/-- a lasting shape, as a fact of the store -/
theorem X_know (k : SP θ st → X θ κ Φ st pc lo stk) : X θ κ Φ st pc lo stk := by
  obtain ⟨p, l, e, R, s, m, args, below, meth, c, st0⟩ := κ
  intro H locs ls cells slots hW hE hl hS
  exact k hW.2.2.2.2.2.2.1 H locs ls cells slots hW hE hl hS
theorem X_con (k : SC st → X θ κ Φ st pc lo stk) : X θ κ Φ st pc lo stk := by
  obtain ⟨p, l, e, R, s, m, args, below, meth, c, st0⟩ := κ
  intro H locs ls cells slots hW hE hl hS
  exact k hW.2.2.2.2.2.2.2 H locs ls cells slots hW hE hl hS
theorem X_ext (k : Ext κ.2.2.2.2.2.2.2.2.2.2 st → X θ κ Φ st pc lo stk) : X θ κ Φ st pc lo stk := by
  obtain ⟨p, l, e, R, s, m, args, below, meth, c, st0⟩ := κ
  intro H locs ls cells slots hW hE hl hS
  exact k hE H locs ls cells slots hW hE hl hS
theorem X_iret (C : Cx θ κ y cc nL ret hh d) {v : Int32} (hret : ret = some .int) (dg : decode cc pc = .ok (.ireturn, 1)) (h : Φ.1 st (some (.int v))) : X θ κ Φ st pc lo [.int v] := by
  obtain ⟨p, l, e, R, s, m, args, below, meth, c, st0⟩ := κ
  obtain ⟨hx, hb, hml, hown, hts, hr, hlk, htb, hK, hW0, hR, hst, hnm⟩ := C
  have hb0 : thb θ ≤ s.heap.size := by have := hW0.1; omega
  intro H locs ls cells slots hW hE hl hS
  refine W_narrow hb0 (fun f1 f2 => ?_)
  have g1 := hW0.1
  have g2 := hW.1
  have g3 := hW.2.2.1
  have g4 := hW0.2.1
  have g5 := hW.2.1
  have g6 := hW.2.2.2.1
  refine W.widen (k := gCAP - sN st0) (n := gCAPS - sS st0) (by omega) (by omega) ?_
  refine vx_ret ?_
  exact W.iret hx hb (by rw [hr, hret]) (fun t ht hWm => ⟨⟨st, some (.int v), rfl, h, by rw [ht]; exact hW, hE⟩, hS.F ht⟩) hS.2.2 dg hlk
theorem X_lret (C : Cx θ κ y cc nL ret hh d) {v : Int64} (hret : ret = some .long) (dg : decode cc pc = .ok (.lreturn, 1)) (h : Φ.1 st (some (.long v))) : X θ κ Φ st pc lo [.long v] := by
  obtain ⟨p, l, e, R, s, m, args, below, meth, c, st0⟩ := κ
  obtain ⟨hx, hb, hml, hown, hts, hr, hlk, htb, hK, hW0, hR, hst, hnm⟩ := C
  have hb0 : thb θ ≤ s.heap.size := by have := hW0.1; omega
  intro H locs ls cells slots hW hE hl hS
  refine W_narrow hb0 (fun f1 f2 => ?_)
  have g1 := hW0.1
  have g2 := hW.1
  have g3 := hW.2.2.1
  have g4 := hW0.2.1
  have g5 := hW.2.1
  have g6 := hW.2.2.2.1
  refine W.widen (k := gCAP - sN st0) (n := gCAPS - sS st0) (by omega) (by omega) ?_
  refine vx_ret ?_
  exact W.lret hx hb (by rw [hr, hret]) (fun t ht hWm => ⟨⟨st, some (.long v), rfl, h, by rw [ht]; exact hW, hE⟩, hS.F ht⟩) hS.2.2 dg hlk
theorem X_vret (C : Cx θ κ y cc nL ret hh d) (hret : ret = none) (dg : decode cc pc = .ok (.return_, 1)) (h : Φ.1 st none) : X θ κ Φ st pc lo [] := by
  obtain ⟨p, l, e, R, s, m, args, below, meth, c, st0⟩ := κ
  obtain ⟨hx, hb, hml, hown, hts, hr, hlk, htb, hK, hW0, hR, hst, hnm⟩ := C
  have hb0 : thb θ ≤ s.heap.size := by have := hW0.1; omega
  intro H locs ls cells slots hW hE hl hS
  refine W_narrow hb0 (fun f1 f2 => ?_)
  have g1 := hW0.1
  have g2 := hW.1
  have g3 := hW.2.2.1
  have g4 := hW0.2.1
  have g5 := hW.2.1
  have g6 := hW.2.2.2.1
  refine W.widen (k := gCAP - sN st0) (n := gCAPS - sS st0) (by omega) (by omega) ?_
  refine vx_ret ?_
  exact W.vret hx hb (by rw [hr, hret]) (fun t ht hWm => ⟨⟨st, none, rfl, h, by rw [ht]; exact hW, hE⟩, hS.F ht⟩) hS.2.2 dg hlk
theorem X_zret (C : Cx θ κ y cc nL ret hh d) {v : Int32} {ty : FieldType} (hret : ret = some ty) (hn : narrow ty (.int v) = .int v) (dg : decode cc pc = .ok (.ireturn, 1)) (h : Φ.1 st (some (.int v))) : X θ κ Φ st pc lo [.int v] := by
  obtain ⟨p, l, e, R, s, m, args, below, meth, c, st0⟩ := κ
  obtain ⟨hx, hb, hml, hown, hts, hr, hlk, htb, hK, hW0, hR, hst, hnm⟩ := C
  have hb0 : thb θ ≤ s.heap.size := by have := hW0.1; omega
  intro H locs ls cells slots hW hE hl hS
  refine W_narrow hb0 (fun f1 f2 => ?_)
  have g1 := hW0.1
  have g2 := hW.1
  have g3 := hW.2.2.1
  have g4 := hW0.2.1
  have g5 := hW.2.1
  have g6 := hW.2.2.2.1
  refine W.widen (k := gCAP - sN st0) (n := gCAPS - sS st0) (by omega) (by omega) ?_
  refine vx_ret ?_
  exact W.zret hx hb (by rw [hr, hret]) hn (fun t ht hWm => ⟨⟨st, some (.int v), rfl, h, by rw [ht]; exact hW, hE⟩, hS.F ht⟩) hS.2.2 dg hlk
theorem X_aret (C : Cx θ κ y cc nL ret hh d) {v : Value} {ty : FieldType} (hret : ret = some ty) (hrt : (∃ n, ty = .object n) ∨ ∃ t, ty = .array t) (hv : isRV v) (dg : decode cc pc = .ok (.areturn, 1)) (h : Φ.1 st (some v)) : X θ κ Φ st pc lo [v] := by
  obtain ⟨p, l, e, R, s, m, args, below, meth, c, st0⟩ := κ
  obtain ⟨hx, hb, hml, hown, hts, hr, hlk, htb, hK, hW0, hR, hst, hnm⟩ := C
  have hb0 : thb θ ≤ s.heap.size := by have := hW0.1; omega
  intro H locs ls cells slots hW hE hl hS
  refine W_narrow hb0 (fun f1 f2 => ?_)
  have g1 := hW0.1
  have g2 := hW.1
  have g3 := hW.2.2.1
  have g4 := hW0.2.1
  have g5 := hW.2.1
  have g6 := hW.2.2.2.1
  refine W.widen (k := gCAP - sN st0) (n := gCAPS - sS st0) (by omega) (by omega) ?_
  refine vx_ret ?_
  exact W.aret hx hb (by rw [hr, hret]) hrt hv (fun t ht hWm => ⟨⟨st, some v, rfl, h, by rw [ht]; exact hW, hE⟩, hS.F ht⟩) hS.2.2 dg hlk
end RULES
