/-! MY OWN LAYER, 1: the heap above a base, by a typed store. St = (N, S, shapes, lengths, ints, longs, references) -/
def gBIG : Nat := 100000000
def gCAP : Nat := 1200144
def gCAPS : Nat := 5497210
abbrev St : Type := Nat × Nat × (Nat → Nat) × (Nat → Nat) × (Nat → Nat → Int32) × (Nat → Nat → Int64) × (Nat → Nat → Option Nat)
def sN (st : St) : Nat := st.1
def sS (st : St) : Nat := st.2.1
def sh (st : St) : Nat → Nat := st.2.2.1
def ln (st : St) : Nat → Nat := st.2.2.2.1
def sI (st : St) : Nat → Nat → Int32 := st.2.2.2.2.1
def sL (st : St) : Nat → Nat → Int64 := st.2.2.2.2.2.1
def sR (st : St) : Nat → Nat → Option Nat := st.2.2.2.2.2.2
def putI (st : St) (a j : Nat) (v : Int32) : St := (sN st, sS st, sh st, ln st, fun k i => if k = a ∧ i = j then v else sI st k i, sL st, sR st)
def putL (st : St) (a j : Nat) (v : Int64) : St := (sN st, sS st, sh st, ln st, sI st, fun k i => if k = a ∧ i = j then v else sL st k i, sR st)
def putR (st : St) (a j : Nat) (v : Option Nat) : St := (sN st, sS st, sh st, ln st, sI st, sL st, fun k i => if k = a ∧ i = j then v else sR st k i)
/-- a new cell of shape c with n slots, at sN st -/
def mk (st : St) (c n : Nat) : St := (sN st + 1, sS st + n, fun k => if k = sN st then c else sh st k, fun k => if k = sN st then n else ln st k, fun k i => if k = sN st then 0 else sI st k i, fun k i => if k = sN st then 0 else sL st k i, fun k i => if k = sN st then none else sR st k i)
/-- cells that nothing is said of -/
def jk (st : St) (a b : Nat) : St := (sN st + a, sS st + b, sh st, ln st, sI st, sL st, sR st)
/-- classes' numbers and slots, the base, old cells' addresses, array classes, the lasting shapes, lengths, references -/
abbrev Th : Type := va_G × Nat × (Nat → Nat) × (Nat → ClassId) × (Nat → Nat) × (Nat → Nat) × (Nat → Nat → Option Nat)
def thD (θ : Th) : va_G := θ.1
def thb (θ : Th) : Nat := θ.2.1
def thc (θ : Th) : Nat → Nat := θ.2.2.1
def thA (θ : Th) : Nat → ClassId := θ.2.2.2.1
def thS (θ : Th) : Nat → Nat := θ.2.2.2.2.1
def thL (θ : Th) : Nat → Nat := θ.2.2.2.2.2.1
def thF (θ : Th) : Nat → Nat → Option Nat := θ.2.2.2.2.2.2
def ad (θ : Th) (k : Nat) : Nat := if k < gBIG then thb θ + k else thc θ (k - gBIG)
def rv (θ : Th) (r : Option Nat) : Value := match r with
  | none => .null
  | some k => .ref (ad θ k)
def sv (θ : Th) (st : St) (ty : FieldType) (k j : Nat) : Value := match ty with
  | .long => .long (sL st k j)
  | .object _ => rv θ (sR st k j)
  | .array _ => rv θ (sR st k j)
  | _ => .int (sI st k j)
def acomp (t : Nat) : FieldType := match t with
  | 101 => .int
  | 102 => .long
  | 103 => .byte
  | 104 => .boolean
  | 105 => .char
  | 106 => .short
  | 111 => .array .int
  | 112 => .array (.array .int)
  | 113 => .array .long
  | 114 => .object "SecretsWorth$Ratio"
  | 115 => .object "SecretsWorth$Sheet"
  | _ => .object "SecretsWorth$Node"
def cellIs (θ : Th) (st : St) (k : Nat) (c : Cell) : Prop :=
  (sh st k < 100 → ∃ q, gcl[sh st k - 1]? = some q ∧ c.cls = (thD θ).1 (sh st k - 1) ∧ c.vm = .none ∧ ∀ j, j < q.2.2 → c.slots[(thD θ).2 (sh st k - 1) j]? = some (sv θ st (gty (sh st k - 1) j) k j)) ∧
  (¬ sh st k < 100 → c = arrV (thA θ (sh st k)) (ln st k) (fun j => sv θ st (acomp (sh st k)) k j))
/-- an old cell (a String constant, a row) may differ in what no instruction looks at -/
def cellOk (θ : Th) (st : St) (k : Nat) (c : Cell) : Prop := ∃ c', cellIs θ st k c' ∧ (k < gBIG ∨ (sh st k < 100 ∧ sh st k ≠ 10) → c = c') ∧ c.cls = c'.cls ∧ ((∀ (j : Nat) (v : Value), c'.slots[j]? = some v → c.slots[j]? = some v) ∧ c.slots.size.toInt32 = c'.slots.size.toInt32 ∧ (gBIG ≤ k → 100 ≤ sh st k → c'.slots.size < 2 ^ 31)) ∧ c.vm ≠ .unknown ∧ c.vm.isStatics = false
def slotSum (H : Heap) (b : Nat) : Nat := ((H.toList.drop b).map (·.slots.size)).sum
def SP (θ : Th) (st : St) : Prop := ∀ k, thS θ k ≠ 0 → k < gBIG ∧ sh st k = thS θ k ∧ ln st k = thL θ k ∧ ∀ j a, thF θ k j = some a → sR st k j = some a
/-! constants: old cells whose contents last: String constants (the object at gBIG + 2 i, its bytes behind it), two tables of digits -/
def kTx : List (List Nat) := [[], [108, 111, 110, 103, 32, 111, 118, 101, 114, 102, 108, 111, 119], [115, 116, 97, 116, 101, 115], [112, 97, 114, 116, 115], [115, 105, 122, 101], [103, 97, 109, 101], [112, 114, 105, 111, 114], [116, 97, 114, 103, 101, 116], [116, 114, 101, 101], [115, 116, 97, 121], [40], [44], [41, 61], [32, 115, 116, 97, 121, 32], [91], [110, 117, 108, 108], [58, 32], [93], [47], [59], [43]]
def kHs : List Int32 := [0, (-516007642), (-892482046), 106437344, 3530753, 3165170, 106934986, (-880905839), 3568542, 3540569, 40, 44, 1332, 1025890503, 91, 3392903, 1830, 93, 47, 59, 43]
def kS (k : Nat) : Nat := if k - gBIG < 42 then (if (k - gBIG) % 2 = 0 then 10 else 103) else if k - gBIG = 200 ∨ k - gBIG = 201 then 103 else 0
def kL (k : Nat) : Nat := if k - gBIG < 42 then (if (k - gBIG) % 2 = 0 then 4 else (kTx.getD ((k - gBIG) / 2) []).length) else 100
def kI (k j : Nat) : Int32 := if k - gBIG < 42 then (if (k - gBIG) % 2 = 0 then (if j = 2 then kHs.getD ((k - gBIG) / 2) 0 else if j = 3 ∧ k = gBIG then 1 else 0) else Int32.ofNat ((kTx.getD ((k - gBIG) / 2) []).getD j 0)) else if k - gBIG = 200 then Int32.ofNat (48 + j / 10) else Int32.ofNat (48 + j % 10)
def kR (k j : Nat) : Option Nat := if k - gBIG < 42 ∧ (k - gBIG) % 2 = 0 ∧ j = 0 then some (k + 1) else none
def SC (st : St) : Prop := ∀ k, gBIG ≤ k → kS k ≠ 0 → sh st k = kS k ∧ (kS k = 103 → ln st k = kL k) ∧ (∀ j, sI st k j = kI k j) ∧ ∀ j, sR st k j = kR k j
def Wd (θ : Th) (st : St) (H : Heap) : Prop := H.size = thb θ + sN st ∧ slotSum H (thb θ) = sS st ∧ sN st ≤ gCAP ∧ sS st ≤ gCAPS ∧ (∀ k, sh st k ≠ 0 → ∃ c, H[ad θ k]? = some c ∧ cellOk θ st k c) ∧ (∀ i, thc θ i < thb θ ∨ thb θ + gBIG ≤ thc θ i) ∧ SP θ st ∧ SC st
/-- shapes last -/
def Ext (st st' : St) : Prop := sN st ≤ sN st' ∧ ∀ k, sh st k ≠ 0 → sh st' k = sh st k ∧ ln st' k = ln st k
theorem Ext_rf {st : St} : Ext st st := ⟨Nat.le_refl _, fun _ _ => ⟨rfl, rfl⟩⟩
theorem Ext_tr {a b c : St} (h : Ext a b) (g : Ext b c) : Ext a c := ⟨Nat.le_trans h.1 g.1, fun k hk => by
  obtain ⟨e1, e2⟩ := h.2 k hk
  obtain ⟨g1, g2⟩ := g.2 k (by rw [e1]; exact hk)
  exact ⟨g1.trans e1, g2.trans e2⟩⟩
theorem Ext_sh {st st' : St} (h : Ext st st') {k c : Nat} (hk : sh st k = c) (h0 : c ≠ 0) : sh st' k = c := (h.2 k (by rw [hk]; exact h0)).1.trans hk
theorem Ext_ln {st st' : St} (h : Ext st st') {k n : Nat} (hk : sh st k ≠ 0) (hn : ln st k = n) : ln st' k = n := (h.2 k hk).2.trans hn
theorem Ext_of {st st' : St} (h1 : sN st' = sN st) (h2 : sh st' = sh st) (h3 : ln st' = ln st) : Ext st st' := ⟨by rw [h1]; exact Nat.le_refl _, fun k _ => by rw [h2, h3]; exact ⟨rfl, rfl⟩⟩
theorem ad_lo {θ : Th} {k : Nat} (h : k < gBIG) : ad θ k = thb θ + k := by unfold ad; rw [if_pos h]
theorem ad_ne {θ : Th} (hc : ∀ i, thc θ i < thb θ ∨ thb θ + gBIG ≤ thc θ i) {a k : Nat} (ha : a < gBIG) (h : k ≠ a) : ad θ k ≠ thb θ + a := by
  unfold ad
  split
  · omega
  · have := hc (k - gBIG); omega
theorem Wd_lt {θ : Th} {st : St} {H : Heap} (h : Wd θ st H) {k : Nat} (hk : sh st k ≠ 0) (hb : k < gBIG) : k < sN st := by
  obtain ⟨h1, -, -, -, h5, -⟩ := h
  obtain ⟨c, hc, -⟩ := h5 k hk
  have := (Array.getElem?_eq_some_iff.mp hc).1
  rw [ad_lo hb] at this
  omega
theorem cellIs_congr {θ : Th} {st st' : St} {k : Nat} {c : Cell} (h1 : sh st' k = sh st k) (h2 : ln st' k = ln st k) (h3 : ∀ ty i, sv θ st' ty k i = sv θ st ty k i) (h : cellIs θ st k c) : cellIs θ st' k c := by
  unfold cellIs at h ⊢
  simp only [h1, h2, h3]
  exact h
/-! sizes -/
theorem ss_of {H H' : Heap} (h : H'.toList.map (fun c : Cell => c.slots.size) = H.toList.map (fun c : Cell => c.slots.size)) (b : Nat) : slotSum H' b = slotSum H b := by
  unfold slotSum
  rw [List.map_drop, List.map_drop, h]
theorem ss_put {H H' : Heap} (hz : H'.size = H.size) (hs : ∀ (q : Nat) (c : Cell), H[q]? = some c → ∃ c' : Cell, H'[q]? = some c' ∧ c'.slots.size = c.slots.size) (b : Nat) : slotSum H' b = slotSum H b := by
  refine ss_of ?_ b
  apply List.ext_getElem?
  intro i
  simp only [List.getElem?_map, Array.getElem?_toList]
  cases hc : H[i]? with
  | none =>
    have : H'[i]? = none := by
      have h1 : H.size ≤ i := by simpa using hc
      simpa using (show H'.size ≤ i by omega)
    rw [this]
  | some c =>
    obtain ⟨c', h1, h2⟩ := hs i c hc
    rw [h1]
    simp [h2]
theorem ss_push {H H' : Heap} {c : Cell} (hz : H'.size = H.size + 1) (ho : ∀ q : Nat, q < H.size → H'[q]? = H[q]?) (hn : H'[H.size]? = some c) {b : Nat} (hb : b ≤ H.size) : slotSum H' b = slotSum H b + c.slots.size := by
  have e : H' = H.push c := by
    apply Array.ext_getElem?
    intro i
    rw [Array.getElem?_push]
    rcases Nat.lt_trichotomy i H.size with h | h | h
    · rw [if_neg (Nat.ne_of_lt h)]; exact ho i h
    · rw [if_pos h, h]; exact hn
    · rw [if_neg (by omega)]
      have h1 : H'[i]? = none := by simpa using (show H'.size ≤ i by omega)
      have h2 : H[i]? = none := by simpa using (show H.size ≤ i by omega)
      rw [h1, h2]
  subst e
  unfold slotSum
  rw [Array.toList_push, List.drop_append_of_le_length (by simpa using hb)]
  simp
theorem ss_split {s t : Heap} (hst : s.size ≤ t.size) (hs : ∀ (q : Nat) (c : Cell), s[q]? = some c → ∃ c' : Cell, t[q]? = some c' ∧ c'.slots.size = c.slots.size) {b : Nat} (hb : b ≤ s.size) : slotSum t b = slotSum s b + ((t.toList.drop s.size).map (·.slots.size)).sum := by
  have e : (t.toList.map (fun c : Cell => c.slots.size)).take s.size = s.toList.map (fun c : Cell => c.slots.size) := by
    apply List.ext_getElem?
    intro i
    rw [List.getElem?_take]
    simp only [List.getElem?_map, Array.getElem?_toList]
    by_cases hi : i < s.size
    · rw [if_pos hi]
      have hc : s[i]? = some s[i] := Array.getElem?_eq_getElem hi
      obtain ⟨c', h1, h2⟩ := hs i _ hc
      rw [hc, h1]
      simp [h2]
    · rw [if_neg hi]
      have h2 : s[i]? = none := by simpa using (show s.size ≤ i by omega)
      rw [h2]; rfl
  unfold slotSum
  rw [List.map_drop, List.map_drop, List.map_drop, ← e]
  generalize t.toList.map (fun c : Cell => c.slots.size) = L
  have h1 : L.drop b = (L.take s.size).drop b ++ L.drop s.size := by
    conv => lhs; rw [← List.take_append_drop s.size L]
    by_cases hl : s.size ≤ L.length
    · rw [List.drop_append_of_le_length (by simp; omega)]
    · have h3 : L.drop s.size = [] := List.drop_eq_nil_of_le (by omega)
      rw [h3]; simp
  rw [h1, List.sum_append]
theorem ss_mono {s t : Heap} (hst : s.size ≤ t.size) (hs : ∀ (q : Nat) (c : Cell), s[q]? = some c → ∃ c' : Cell, t[q]? = some c' ∧ c'.slots.size = c.slots.size) {b : Nat} (hb : b ≤ s.size) : slotSum s b ≤ slotSum t b := by
  rw [ss_split hst hs hb]; omega
section NARROW
variable {p : Program} {l : Launch} {e : Env} {R : Room} {s : State} {m : MethodId} {args : Array Value} {below : List Frame} {meth : Method} {c : Code} {H : Heap} {locs : List Loc} {cells slots : Nat} {Q : State → Prop}
/-- the room that is used can be read off the heap -/
theorem stand_narrow {T : State} {b : Nat} (hb : b ≤ s.heap.size) (X : Stand p l e R s m args below meth c T locs cells slots) :
    Stand p l e R s m args below meth c T locs (T.heap.size - s.heap.size) (slotSum T.heap b - slotSum s.heap b) ∧ s.heap.size ≤ T.heap.size ∧ slotSum s.heap b ≤ slotSum T.heap b := by
  obtain ⟨e1, e2, e3, e4, e5, e6⟩ := X.same
  have f2 : s.heap.size ≤ T.heap.size := e2
  have f6 : ∀ (q : Nat) (c : Cell), s.heap[q]? = some c → ∃ c' : Cell, T.heap[q]? = some c' ∧ c'.slots.size = c.slots.size := fun q c hc => by
    obtain ⟨c', g1, g2, g3, g4⟩ := e6 q c hc
    exact ⟨c', g1, g3⟩
  have f7 := ss_split f2 f6 hb
  refine ⟨{ X with same := ⟨e1, e2, ?_, e4, ?_, e6⟩ }, f2, by omega⟩
  · show T.heap.size ≤ s.heap.size + (T.heap.size - s.heap.size); omega
  · show ((T.heap.toList.drop s.heap.size).map (·.slots.size)).sum ≤ _
    omega
theorem W_narrow {b : Nat} {g : JFrame} (hb : b ≤ s.heap.size) (k : s.heap.size ≤ H.size → slotSum s.heap b ≤ slotSum H b → W p l e R s m args below meth c H locs (H.size - s.heap.size) (slotSum H b - slotSum s.heap b) Q g) : W p l e R s m args below meth c H locs cells slots Q g := by
  intro T hT X
  obtain ⟨X', h1, h2⟩ := stand_narrow hb X
  subst hT
  exact k h1 h2 T rfl X'
theorem vx_narrow {b : Nat} {g : JFrame} {q : Addr} (hb : b ≤ s.heap.size) (k : s.heap.size ≤ H.size → slotSum s.heap b ≤ slotSum H b → vx_W p l e R s m args below meth c H locs (H.size - s.heap.size) (slotSum H b - slotSum s.heap b) Q g q) : vx_W p l e R s m args below meth c H locs cells slots Q g q := by
  intro T hT X
  obtain ⟨X', h1, h2⟩ := stand_narrow hb X
  subst hT
  exact k h1 h2 T rfl X'
end NARROW
/-! the world moves -/
theorem cellOk_of {θ : Th} {st : St} {k : Nat} {c : Cell} (hk : k < gBIG) (h : cellIs θ st k c) : cellOk θ st k c := by
  have hv : c.vm = .none := by
    by_cases e : sh st k < 100
    · obtain ⟨q, -, -, h3, -⟩ := h.1 e
      exact h3
    · rw [h.2 e]; rfl
  exact ⟨c, h, fun _ => rfl, rfl, ⟨fun _ _ h => h, rfl, fun h _ => absurd hk (Nat.not_lt.mpr h)⟩, (by rw [hv]; exact fun h => by cases h), (by rw [hv]; rfl)⟩
theorem cellOk_congr {θ : Th} {st st' : St} {k : Nat} {c : Cell} (h1 : sh st' k = sh st k) (h2 : ln st' k = ln st k) (h3 : ∀ ty i, sv θ st' ty k i = sv θ st ty k i) (h : cellOk θ st k c) : cellOk θ st' k c := by
  obtain ⟨c', g1, g2, g3, ⟨g4, g5, g6⟩, g7⟩ := h
  exact ⟨c', cellIs_congr h1 h2 h3 g1, by rw [h1]; exact g2, g3, ⟨g4, g5, by rw [h1]; exact g6⟩, g7⟩
theorem sv_of {θ : Th} {st st' : St} {k i : Nat} (h1 : sI st' k i = sI st k i) (h2 : sL st' k i = sL st k i) (h3 : sR st' k i = sR st k i) (ty : FieldType) : sv θ st' ty k i = sv θ st ty k i := by
  cases ty <;> simp [sv, h1, h2, h3]
theorem Wd_put {θ : Th} {st st' : St} {H H' : Heap} (h : Wd θ st H) {a : Nat} (ha : a < gBIG) (h0 : sh st a ≠ 0) (e1 : sN st' = sN st) (e2 : sS st' = sS st) (e3 : sh st' = sh st) (e4 : ln st' = ln st)
    (e6 : ∀ k, k ≠ a → ∀ i, sI st' k i = sI st k i ∧ sL st' k i = sL st k i ∧ sR st' k i = sR st k i) (hsp : SP θ st') (hz : H'.size = H.size) (ho : ∀ q : Nat, q ≠ thb θ + a → H'[q]? = H[q]?) {c c' : Cell} (hc : H[thb θ + a]? = some c) (hc' : H'[thb θ + a]? = some c') (hs : c'.slots.size = c.slots.size) (hi : cellIs θ st' a c') : Wd θ st' H' := by
  have e5 : ∀ k, k ≠ a → ∀ ty i, sv θ st' ty k i = sv θ st ty k i := fun k hk ty i => sv_of (e6 k hk i).1 (e6 k hk i).2.1 (e6 k hk i).2.2 ty
  obtain ⟨h1, h2, h3, h4, h5, h6, h7, h8⟩ := h
  refine ⟨by rw [hz, e1]; exact h1, ?_, by rw [e1]; exact h3, by rw [e2]; exact h4, fun k hk => ?_, h6, hsp, fun k hb hk => ?_⟩
  · rw [e2, ← h2]
    refine ss_put hz (fun q cq hq => ?_) _
    by_cases hqa : q = thb θ + a
    · subst hqa
      rw [hc] at hq
      cases hq
      exact ⟨c', hc', hs⟩
    · exact ⟨cq, by rw [ho q hqa]; exact hq, rfl⟩
  · by_cases hka : k = a
    · subst hka
      exact ⟨c', by rw [ad_lo ha]; exact hc', cellOk_of ha hi⟩
    · rw [e3] at hk
      obtain ⟨ck, g1, g2⟩ := h5 k hk
      exact ⟨ck, by rw [ho _ (ad_ne h6 ha hka)]; exact g1, cellOk_congr (by rw [e3]) (by rw [e4]) (e5 k hka) g2⟩
  · have hka : k ≠ a := by omega
    obtain ⟨g1, g2, g3, g4⟩ := h8 k hb hk
    exact ⟨by rw [e3]; exact g1, by rw [e4]; exact g2, fun j => (e6 k hka j).1.trans (g3 j), fun j => (e6 k hka j).2.2.trans (g4 j)⟩
theorem SP_keep {θ : Th} {st st' : St} (h : SP θ st) (e3 : sh st' = sh st) (e4 : ln st' = ln st) (e5 : sR st' = sR st) : SP θ st' := fun k hk => by
  rw [e3, e4, e5]; exact h k hk
theorem sv_putI {θ : Th} {st : St} {a j : Nat} {v : Int32} {k : Nat} (hk : k ≠ a) (ty : FieldType) (i : Nat) : sv θ (putI st a j v) ty k i = sv θ st ty k i := by
  cases ty <;> simp [sv, putI, sI, sL, sR, hk]
theorem sv_putL {θ : Th} {st : St} {a j : Nat} {v : Int64} {k : Nat} (hk : k ≠ a) (ty : FieldType) (i : Nat) : sv θ (putL st a j v) ty k i = sv θ st ty k i := by
  cases ty <;> simp [sv, putL, sI, sL, sR, hk]
theorem sv_putR {θ : Th} {st : St} {a j : Nat} {v : Option Nat} {k : Nat} (hk : k ≠ a) (ty : FieldType) (i : Nat) : sv θ (putR st a j v) ty k i = sv θ st ty k i := by
  cases ty <;> simp [sv, putR, sI, sL, sR, hk]
theorem sv_putIj {θ : Th} {st : St} {a j : Nat} {v : Int32} {i : Nat} (hk : i ≠ j) (ty : FieldType) : sv θ (putI st a j v) ty a i = sv θ st ty a i := by
  cases ty <;> simp [sv, putI, sI, sL, sR, hk]
theorem sv_putLj {θ : Th} {st : St} {a j : Nat} {v : Int64} {i : Nat} (hk : i ≠ j) (ty : FieldType) : sv θ (putL st a j v) ty a i = sv θ st ty a i := by
  cases ty <;> simp [sv, putL, sI, sL, sR, hk]
theorem sv_putRj {θ : Th} {st : St} {a j : Nat} {v : Option Nat} {i : Nat} (hk : i ≠ j) (ty : FieldType) : sv θ (putR st a j v) ty a i = sv θ st ty a i := by
  cases ty <;> simp [sv, putR, sI, sL, sR, hk]
theorem sv_mk {θ : Th} {st : St} {c n k : Nat} (hk : k ≠ sN st) (ty : FieldType) (i : Nat) : sv θ (mk st c n) ty k i = sv θ st ty k i := by
  cases ty <;> simp [sv, mk, sI, sL, sR, hk]
theorem sv_mkN {θ : Th} {st : St} {c n : Nat} (ty : FieldType) (hf : ty ≠ .float) (hd : ty ≠ .double) (i : Nat) : sv θ (mk st c n) ty (sN st) i = defaultValue ty := by
  cases ty <;> simp [sv, mk, sI, sL, sR, rv, defaultValue] at hf hd ⊢
theorem Wd_push {θ : Th} {st : St} {H H' : Heap} (h : Wd θ st H) {cd n : Nat} (hN : sN st + 1 ≤ gCAP) (hS : sS st + n ≤ gCAPS) (hz : H'.size = H.size + 1) (ho : ∀ q : Nat, q < H.size → H'[q]? = H[q]?) {c' : Cell} (hc' : H'[H.size]? = some c') (hs : c'.slots.size = n) (hi : cellIs θ (mk st cd n) (sN st) c') : Wd θ (mk st cd n) H' := by
  have hlt : ∀ k, sh st k ≠ 0 → k ≠ sN st := fun k hk => by
    by_cases hb : k < gBIG
    · exact Nat.ne_of_lt (Wd_lt h hk hb)
    · have : sN st ≤ gCAP := h.2.2.1
      unfold gBIG at hb
      unfold gCAP at this
      omega
  obtain ⟨h1, h2, h3, h4, h5, h6, h7, h8⟩ := h
  have hNb : sN st < gBIG := by unfold gBIG; unfold gCAP at h3; omega
  refine ⟨by show _ = thb θ + (sN st + 1); omega, ?_, hN, hS, fun k hk => ?_, h6, fun k hk => ?_, fun k hb hk => ?_⟩
  · rw [ss_push hz ho hc' (by omega), h2, hs]; rfl
  · by_cases hka : k = sN st
    · subst hka
      exact ⟨c', by rw [ad_lo hNb, ← h1]; exact hc', cellOk_of hNb hi⟩
    · have hk2 : sh st k ≠ 0 := by simpa [mk, sh, hka] using hk
      obtain ⟨ck, g1, g2⟩ := h5 k hk2
      have g3 : ad θ k < H.size := (Array.getElem?_eq_some_iff.mp g1).1
      exact ⟨ck, by rw [ho _ g3]; exact g1, cellOk_congr (by simp [mk, sh, hka]) (by simp [mk, ln, hka]) (sv_mk hka) g2⟩
  · obtain ⟨g0, g1, g2, g3⟩ := h7 k hk
    have hka := hlt k (by rw [g1]; exact hk)
    exact ⟨g0, by simpa [mk, sh, hka] using g1, by simpa [mk, ln, hka] using g2, fun j a hj => by simpa [mk, sR, hka] using g3 j a hj⟩
  · obtain ⟨g1, g2, g3, g4⟩ := h8 k hb hk
    have hka : k ≠ sN st := by omega
    exact ⟨by simpa [mk, sh, hka] using g1, by simpa [mk, ln, hka] using g2, fun j => by simpa [mk, sI, hka] using g3 j, fun j => by simpa [mk, sR, hka] using g4 j⟩
theorem Wd_jk {θ : Th} {st : St} {H H' : Heap} (h : Wd θ st H) {x y : Nat} (hz : H'.size = H.size + x) (ho : ∀ q : Nat, q < H.size → H'[q]? = H[q]?) (hs : slotSum H' (thb θ) = slotSum H (thb θ) + y) (hN : sN st + x ≤ gCAP) (hS : sS st + y ≤ gCAPS) : Wd θ (jk st x y) H' := by
  obtain ⟨h1, h2, h3, h4, h5, h6, h7, h8⟩ := h
  refine ⟨by show _ = thb θ + (sN st + x); omega, by show _ = sS st + y; omega, hN, hS, fun k hk => ?_, h6, h7, h8⟩
  obtain ⟨ck, g1, g2⟩ := h5 k hk
  have g3 : ad θ k < H.size := (Array.getElem?_eq_some_iff.mp g1).1
  exact ⟨ck, by rw [ho _ g3]; exact g1, g2⟩
theorem Ext_putI {st : St} {a j : Nat} {v : Int32} : Ext st (putI st a j v) := Ext_of rfl rfl rfl
theorem Ext_putL {st : St} {a j : Nat} {v : Int64} : Ext st (putL st a j v) := Ext_of rfl rfl rfl
theorem Ext_putR {st : St} {a j : Nat} {v : Option Nat} : Ext st (putR st a j v) := Ext_of rfl rfl rfl
theorem Ext_mk {θ : Th} {st : St} {H : Heap} (h : Wd θ st H) {c n : Nat} : Ext st (mk st c n) := by
  refine ⟨Nat.le_succ _, fun k hk => ?_⟩
  have hka : k ≠ sN st := by
    by_cases hb : k < gBIG
    · exact Nat.ne_of_lt (Wd_lt h hk hb)
    · have : sN st ≤ gCAP := h.2.2.1
      unfold gBIG at hb
      unfold gCAP at this
      omega
  exact ⟨by simp [mk, sh, hka], by simp [mk, ln, hka]⟩
theorem Ext_jk {st : St} {x y : Nat} : Ext st (jk st x y) := ⟨Nat.le_add_right _ _, fun _ _ => ⟨rfl, rfl⟩⟩
