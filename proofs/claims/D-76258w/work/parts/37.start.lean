/-! THE START, 3: from the entry to the loop; a smaller room; what lasts is told once the objects stand -/
set_option maxRecDepth 100000
theorem stand_room {p : Program} {l : Launch} {e : Env} {R R' : Room} {s : State} {m : MethodId} {args : Array Value} {below : List Frame} {meth : Method} {c : Code} {T : State} {locs : List Loc} {cells slots : Nat} (X : Stand p l e R s m args below meth c T locs cells slots) (hf : R'.frames ≤ R.frames) (hl : R'.locals ≤ R.locals) (hc : R'.cells ≤ R.cells) (hs : R'.slots ≤ R.slots) : Stand p l e R' s m args below meth c T locs cells slots := by
  refine ⟨X.admits, X.cas, X.clock, X.frames, ?_, X.hears, X.method, X.code, X.here, X.tail, X.warmed, X.limits, X.bytes, X.same⟩
  have h := X.room
  simp only [State.hasRoom, Bool.and_eq_true, decide_eq_true_eq] at h ⊢
  obtain ⟨⟨⟨⟨h1, h2, h3, h4, h5, h6⟩, h7⟩, h8⟩, h9⟩ := h
  exact ⟨⟨⟨⟨by omega, by omega, by omega, by omega, by omega, h6⟩, by omega⟩, by omega⟩, h9⟩
/-- the layout, over the addresses and classes of θ -/
def thX (θ : Th) : Th := (thD θ, thb θ, thc θ, thA θ, fun k => gS.getD k 0, fun k => gL.getD k 0, gFa)
theorem thX_LX (θ : Th) : LX (thX θ) := by
  refine ⟨fun k c h => ?_, fun k n h => ?_, fun k j a h => h, fun k h => ?_, fun k j h => h⟩
  · show gS.getD k 0 = c
    rw [List.getD_eq_getElem?_getD, h]; rfl
  · show gL.getD k 0 = n
    rw [List.getD_eq_getElem?_getD, h]; rfl
  · show gS.getD k 0 = 0
    rw [List.getD_eq_getElem?_getD, h]; rfl
theorem Wd_un {θ : Th} (h0 : L0 θ) {st : St} {H : Heap} (h : Wd (thX θ) st H) : Wd θ st H := by
  obtain ⟨a1, a2, a3, a4, a5, a6, -, a8⟩ := h
  exact ⟨a1, a2, a3, a4, a5, a6, fun k hk => absurd (h0.1 k) hk, a8⟩
theorem X_theta {θ : Th} (h0 : L0 θ) {κ : Kx} {Φ : Ph} {st : St} {pc : Nat} {lo : List (Nat × Value)} {stk : List Value} (hs : SP (thX θ) st) (h : X (thX θ) κ Φ st pc lo stk) : X θ κ Φ st pc lo stk := by
  obtain ⟨p, l, e, R, s, m, args, below, meth, c, st0⟩ := κ
  intro H locs ls cells slots hW hE hl hS T hT XX
  obtain ⟨a1, a2, a3, a4, a5, a6, -, a8⟩ := hW
  have hW1 : Wd (thX θ) st H := ⟨a1, a2, a3, a4, a5, a6, hs, a8⟩
  obtain ⟨t, c1, o, b1, b2, b3⟩ := h H locs ls cells slots hW1 hE hl hS T hT XX
  refine ⟨t, c1, o, b1, b2, ?_⟩
  rcases b3 with ⟨⟨⟨st', v, e1, e2, e3, e4⟩, e5⟩, e6⟩ | ⟨q, e1, E, ce, L, ⟨⟨st', f1, f2, f3⟩, f4⟩, rest⟩
  · exact Or.inl ⟨⟨⟨st', v, e1, e2, Wd_un h0 e3, e4⟩, e5⟩, e6⟩
  · exact Or.inr ⟨q, e1, E, ce, L, ⟨⟨st', f1, Wd_un h0 f2, f3⟩, f4⟩, rest⟩
/-- both objects' cells lie as the layout says -/
def lastOK (L : List Lc) : Bool := (List.range 201).all fun k => (sh (stOf L) k == gS.getD k 0) && (ln (stOf L) k == gL.getD k 0) && (List.range ((gF[k]?).getD []).length).all fun j => gFa k j == none || sR (stOf L) k j == gFa k j
theorem SP_of {θ : Th} {L : List Lc} (h : lastOK L = true) : SP (thX θ) (stOf L) := by
  intro k hk
  have hk2 : k < 201 := by
    have e : gS.getD k 0 ≠ 0 := hk
    have e2 : gS.length = 201 := by decide +kernel
    by_cases h : k < 201
    · exact h
    · exact absurd (by rw [List.getD_eq_getElem?_getD, List.getElem?_eq_none (by omega)]; rfl) e
  have h1 := List.all_eq_true.mp h k (List.mem_range.mpr hk2)
  simp only [Bool.and_eq_true, beq_iff_eq] at h1
  obtain ⟨⟨h1, h2⟩, h3⟩ := h1
  refine ⟨by unfold gBIG; omega, h1, h2, fun j a hj => ?_⟩
  have hj : gFa k j = some a := hj
  have hlt : j < ((gF[k]?).getD []).length := by
    by_cases h : j < ((gF[k]?).getD []).length
    · exact h
    · unfold gFa at hj
      rw [List.getElem?_eq_none (by omega)] at hj
      cases hj
  have h4 := List.all_eq_true.mp h3 j (List.mem_range.mpr hlt)
  rw [hj] at h4
  simpa using h4
theorem gcM_last : lastOK gcM = true := by decide +kernel
/-- the law from its entry -/
theorem law_start {θ : Th} {κ : Kx} {Ph : Ph} (h0 : L0 θ) {b L : Nat} {xs : Nat → Int32} (hSc : SCR θ κ b L xs) {d : Nat} (hd : 100 ≤ d) (C : Cx θ κ yL_law cL_law 4 (some Jvm.ClassFile.FieldType.boolean) [] d) {Φ : St → Int32 → Prop} (hn : ∀ st r, Φ st r → Ph.1 st (some (.int r))) (hw : w_L_law L xs (stOf gcM) 0 Φ) : X θ κ Ph (stOf []) 0 [(0, .ref b)] [] := by
  refine X_new (ci := 0) (q := (RX0, TX0, 49)) C rfl q162 q163 q132 (by decide +kernel) (by decide +kernel) dL_law_0 (fun hE1 => ?_)
  rw [mk_stOf] at hE1 ⊢
  show X θ κ Ph (stOf (al [] 1 49)) 3 [(0, .ref b)] [.ref (ad θ 0)]
  refine X_dup C dL_law_3 rfl ?_
  refine X_callI (As := []) (rest := [_]) C q164 q165 q132 q166 rfl nm_X0_init rfl dL_law_4 (m_X0_init (Cx_l C) h0 (d := d - 1) (by omega) (stOf (al [] 1 49)) 0 (by decide +kernel) (by decide +kernel) (go_x (P := fun s => s = stOf gcX) rfl)) (by omega) (by decide) (Nat.le_of_ble_eq_true rfl) (fun s1 w1 hE2 hP2 => ?_) (fun s1 E1 q1 hE2 hP2 => hP2.elim)
  obtain ⟨rfl, rfl⟩ := hP2
  refine X_tln ?_
  refine X_astore_n C dL_law_7 rfl (isRV_r _) (lo2 := [(1, _), (0, _)]) (by decide) rfl ?_
  refine X_new (ci := 4) (q := (RX4, TX4, 54)) C rfl q1760 q1761 q136 (by decide +kernel) (by decide +kernel) dL_law_8 (fun hE3 => ?_)
  rw [mk_stOf] at hE3 ⊢
  have e175 : sN (stOf gcX) = 175 := by decide +kernel
  rw [e175]
  refine X_dup C dL_law_11 rfl ?_
  refine X_callI (As := []) (rest := [_]) C q1762 q1763 q136 q1764 rfl nm_X4_init rfl dL_law_12 (m_X4_init (Cx_l C) h0 (d := d - 1) (by omega) (stOf (al gcX 5 54)) 175 (by decide +kernel) (by decide +kernel) (go_m (P := fun s => s = stOf gcM) rfl)) (by omega) (by decide) (Nat.le_of_ble_eq_true rfl) (fun s2 w2 hE4 hP4 => ?_) (fun s2 E2 q2 hE4 hP4 => hP4.elim)
  obtain ⟨rfl, rfl⟩ := hP4
  refine X_tln ?_
  refine X_astore_n C dL_law_15 rfl (isRV_r _) (lo2 := [(2, _), (1, _), (0, _)]) (by decide) rfl ?_
  refine X_iconst (v := 0) C dL_law_16 rfl ?_
  refine X_istore_n C dL_law_17 rfl (lo2 := [(3, _), (2, _), (1, _), (0, _)]) (by decide) rfl ?_
  refine X_sub [3, 2, 1, 0] (lo2 := [(0, _), (1, _), (2, _), (3, _)]) rfl ?_
  refine X_theta h0 (SP_of gcM_last) ?_
  exact t_L_law (θ := thX θ) (d := d) (thX_LX θ) (by obtain ⟨p, l, e, R, s, m, args, below, meth, c, st0⟩ := κ; exact hSc) (by omega) (by obtain ⟨p, l, e, R, s, m, args, below, meth, c, st0⟩ := κ; exact C) hn (stOf gcM) 0 hw
