/-! PLAIN LAW, 23: determinants by sets of columns, on both sides -/
set_option maxRecDepth 100000
/-- along one row: columns from 3 down, signs in turn -/
def grS (f m : Nat → Int64) (s : Nat) : Nat → Int64 × Bool
  | 0 => (0, true)
  | i + 1 => if s.testBit (3 - i) then ((grS f m s i).1 + (if (grS f m s i).2 then f (3 - i) * m (s - 2 ^ (3 - i)) else -(f (3 - i) * m (s - 2 ^ (3 - i)))), !(grS f m s i).2) else grS f m s i
/-- the first rows, so many, by a set of columns -/
def dtK (e : Nat → Nat → Int64) : Nat → Nat → Int64
  | 0, _ => 1
  | k + 1, s => (grS (e k) (dtK e k) s 4).1
def pcN (s : Nat) : Nat := (if s.testBit 0 then 1 else 0) + (if s.testBit 1 then 1 else 0) + (if s.testBit 2 then 1 else 0) + (if s.testBit 3 then 1 else 0)
theorem btB : ∀ s, s < 16 → ∀ j, j < 4 → decide ((((Int32.ofNat s) >>> ((Int32.ofNat j) &&& 31)) &&& 1) = 1) = s.testBit j := by decide +kernel
theorem bcB : ∀ s, s < 16 → ∀ j, j < 4 → s.testBit j = true → ((Int32.ofNat s) &&& (((1 : Int32) <<< ((Int32.ofNat j) &&& 31)) ^^^ (-1))) = Int32.ofNat (s - 2 ^ j) := by decide +kernel
theorem pcB : ∀ s, s < 16 → ∀ j, j < 4 → s.testBit j = true → pcN (s - 2 ^ j) + 1 = pcN s := by decide +kernel
theorem grS_cg {f g m n : Nat → Int64} {s : Nat} : ∀ i, i ≤ 4 → (∀ j, j < 4 → s.testBit j = true → f j = g j ∧ m (s - 2 ^ j) = n (s - 2 ^ j)) → grS f m s i = grS g n s i
  | 0, _, _ => rfl
  | i + 1, hi, h => by
    rw [grS, grS, grS_cg i (by omega) h]
    by_cases hb : s.testBit (3 - i) = true
    · obtain ⟨e1, e2⟩ := h (3 - i) (by omega) hb
      rw [if_pos hb, if_pos hb, e1, e2]
    · rw [if_neg hb, if_neg hb]
theorem gr_step {Φ : St → Int64 → Prop} {E : St → Int64 → Prop} {n : Nat} {st : St} {s r j : Nat} {x3 : Int64} {c : Bool} (hs : s < 16) (hr : r < 4) (hj : j < 4) (h : w_X0_grown_l8 Φ E n st (Int32.ofNat s) (Int32.ofNat r) (if s.testBit j then x3 + (if c then sL st (124 + r) j * sL st 128 (s - 2 ^ j) else -(sL st (124 + r) j * sL st 128 (s - 2 ^ j))) else x3) (ib (if s.testBit j then !c else c)) (Int32.ofNat j + (-1))) : w_X0_grown_l8 Φ E (n + 1) st (Int32.ofNat s) (Int32.ofNat r) x3 (ib c) (Int32.ofNat j) := by
  have hb := btB s hs j hj
  rw [w_X0_grown_l8, lt0_32, ti_of (by omega)]
  refine ⟨fun h => absurd h (by omega), fun _ => ⟨fun hne => ?_, fun heq => ?_⟩⟩
  · rw [decide_eq_false hne] at hb
    rw [← hb] at h
    unfold w_X0_grown_b76
    exact h
  · rw [decide_eq_true heq] at hb
    have e := bcB s hs j hj hb.symm
    have h16 : s - 2 ^ j < 16 := Nat.lt_of_le_of_lt (Nat.sub_le _ _) hs
    rw [e, vp_of (by omega), vp_of (by omega), vp_of (by omega), nn_of (by omega), nn_of (by omega), nn_of (by omega)]
    refine ⟨by omega, by omega, by omega, ?_⟩
    rintro _ rfl
    rw [← hb] at h
    unfold w_X0_grown_b62 w_X0_grown_b74 w_X0_grown_b76
    rw [ib_z]
    cases c with
    | false =>
      refine ⟨fun _ => ?_, fun h2 => absurd rfl h2⟩
      rintro _ rfl
      exact ⟨fun h2 => absurd rfl h2, fun _ => h⟩
    | true =>
      refine ⟨fun h2 => (by cases h2), fun _ => ?_⟩
      rintro _ rfl
      exact ⟨fun _ => h, fun h2 => absurd h2 (by decide)⟩
theorem s_grown {st : St} {s r : Nat} {Φ : St → Int64 → Prop} (hs : s < 16) (hr : r < 4) (h : Φ st (grS (fun j => sL st (124 + r) j) (fun t => sL st 128 t) s 4).1) : w_X0_grown st (Int32.ofNat s) (Int32.ofNat r) Φ := by
  unfold w_X0_grown
  obtain ⟨f, hf⟩ : ∃ f, gFU = f + 1 + 1 + 1 + 1 + 1 := ⟨gFU - 5, by unfold gFU; omega⟩
  have e1 : ∀ i, i ≤ 3 → grS (fun j => sL st (124 + r) j) (fun t => sL st 128 t) s (i + 1) = (if s.testBit (3 - i) then (grS (fun j => sL st (124 + r) j) (fun t => sL st 128 t) s i).1 + (if (grS (fun j => sL st (124 + r) j) (fun t => sL st 128 t) s i).2 then sL st (124 + r) (3 - i) * sL st 128 (s - 2 ^ (3 - i)) else -(sL st (124 + r) (3 - i) * sL st 128 (s - 2 ^ (3 - i)))) else (grS (fun j => sL st (124 + r) j) (fun t => sL st 128 t) s i).1, if s.testBit (3 - i) then !(grS (fun j => sL st (124 + r) j) (fun t => sL st 128 t) s i).2 else (grS (fun j => sL st (124 + r) j) (fun t => sL st 128 t) s i).2) := fun i _ => by
    rw [grS]
    by_cases hb : s.testBit (3 - i) = true
    · rw [if_pos hb, if_pos hb, if_pos hb]
    · rw [if_neg hb, if_neg hb, if_neg hb]
  rw [hf]
  have s3 := e1 0 (by omega)
  have s2 := e1 1 (by omega)
  have s1 := e1 2 (by omega)
  have s0 := e1 3 (by omega)
  refine gr_step (c := true) (j := 3) hs hr (by omega) ?_
  refine gr_step (j := 2) hs hr (by omega) ?_
  refine gr_step (j := 1) hs hr (by omega) ?_
  refine gr_step (j := 0) hs hr (by omega) ?_
  rw [w_X0_grown_l8]
  refine ⟨fun _ => ?_, fun h2 => absurd (by decide) h2⟩
  unfold w_X0_grown_b82
  have q1 : (grS (fun j => sL st (124 + r) j) (fun t => sL st 128 t) s 0) = (0, true) := rfl
  rw [q1] at s3
  rw [s3] at s2
  rw [s2] at s1
  rw [s1] at s0
  rw [s0] at h
  exact h
/-- all bits of one set are in the other -/
def sbN (s all : Nat) : Bool := (!(s.testBit 0) || all.testBit 0) && (!(s.testBit 1) || all.testBit 1) && (!(s.testBit 2) || all.testBit 2) && (!(s.testBit 3) || all.testBit 3)
theorem sbB : ∀ s, s < 16 → ∀ all, all < 16 → decide (((Int32.ofNat s) &&& ((Int32.ofNat all) ^^^ (-1))) = 0) = sbN s all := by decide +kernel
def sbQ (s all j : Nat) : Bool := !(s.testBit j) || !(sbN s all) || (sbN (s - 2 ^ j) all && decide (s - 2 ^ j < s))
theorem sbQ_ok : ∀ s, s < 16 → ∀ all, all < 16 → ∀ j, j < 4 → sbQ s all j = true := by decide +kernel
theorem sbC (s : Nat) (hs : s < 16) (all : Nat) (ha : all < 16) (j : Nat) (hj : j < 4) (h1 : s.testBit j = true) (h2 : sbN s all = true) : sbN (s - 2 ^ j) all = true ∧ s - 2 ^ j < s := by
  have h := sbQ_ok s hs all ha j hj
  unfold sbQ at h
  rw [h1, h2] at h
  simp only [Bool.not_true, Bool.false_or, Bool.and_eq_true, decide_eq_true_eq] at h
  exact h
theorem sbP : ∀ s, s < 16 → ∀ all, all < 16 → sbN s all = true → pcN s ≤ pcN all := by decide +kernel
theorem sbR : ∀ s, s < 16 → sbN s s = true ∧ (1 ≤ s → 1 ≤ pcN s) := by decide +kernel
theorem pc4 : ∀ s, s < 16 → pcN s ≤ 4 := by decide +kernel
def bc1 (p : Int32) : Int32 := p - (((p.toUInt32 >>> ((1 : Int32).toUInt32 &&& Int32.toUInt32 31)).toInt32) &&& 1431655765)
def bc3 (v : Int32) : Int32 := (v &&& 858993459) + (((v.toUInt32 >>> ((2 : Int32).toUInt32 &&& Int32.toUInt32 31)).toInt32) &&& 858993459)
def bc5 (v : Int32) : Int32 := (v + ((v.toUInt32 >>> ((4 : Int32).toUInt32 &&& Int32.toUInt32 31)).toInt32)) &&& 252645135
def bc7 (v : Int32) : Int32 := v + ((v.toUInt32 >>> ((8 : Int32).toUInt32 &&& Int32.toUInt32 31)).toInt32)
def bc9 (v : Int32) : Int32 := v + ((v.toUInt32 >>> ((16 : Int32).toUInt32 &&& Int32.toUInt32 31)).toInt32)
theorem bc_ok : ∀ s, s < 16 → bc9 (bc7 (bc5 (bc3 (bc1 (Int32.ofNat s))))) &&& 63 = Int32.ofNat (pcN s) := by decide +kernel
theorem s_bitCount {s : Nat} {Φ : Int32 → Prop} (hs : s < 16) (h : Φ (Int32.ofNat (pcN s))) : w_J7_bitCount (Int32.ofNat s) Φ := by
  unfold w_J7_bitCount
  rintro v1 e1 v3 e3 v5 e5 v7 e7 v9 e9
  have f1 : v1 = bc1 (Int32.ofNat s) := e1
  have f3 : v3 = bc3 v1 := e3
  have f5 : v5 = bc5 v3 := e5
  have f7 : v7 = bc7 v5 := e7
  have f9 : v9 = bc9 v7 := e9
  rw [f9, f7, f5, f3, f1, bc_ok s hs]; exact h
def w128 (a j : Nat) : Prop := a = 128 ∧ j < 16
theorem s_minor_l {Φ : St → Int64 → Prop} {E : St → Int32 → Prop} {st0 : St} {r all : Nat} (hN : 201 ≤ sN st0) (h0 : sL st0 128 0 = 1) (hall : all < 16) (hr4 : r < 5) (hr : pcN all ≤ 3 ∨ 4 ≤ r) (h : ∀ s, Fr w128 0 0 st0 s → sL s 128 all = dtK (fun k j => sL st0 (124 + (if k < r then k else k + 1)) j) (pcN all) all → E s (Int32.ofNat all)) : w_X0_minor_l32 Φ E gFU st0 (Int32.ofNat r) (Int32.ofNat all) 1 := by
  refine loop_up (α := St × Int32) (L := fun n a => w_X0_minor_l32 Φ E n a.1 (Int32.ofNat r) (Int32.ofNat all) a.2) all (fun i a => a.2 = Int32.ofNat (i + 1) ∧ Fr w128 0 0 st0 a.1 ∧ ∀ s, s ≤ i → sbN s all = true → sL a.1 128 s = dtK (fun k j => sL st0 (124 + (if k < r then k else k + 1)) j) (pcN s) s) (fun n i a hi hI k9 => ?_) (fun n a hI => ?_) gFU 0 (st0, 1) (by omega) (gFU_big (by omega)) ⟨rfl, Fr_rf, fun s hs _ => by
    have : s = 0 := by omega
    subst this; exact h0⟩
  · obtain ⟨st, x⟩ := a
    obtain ⟨e, hF, hv⟩ := hI
    dsimp only at e hF hv
    subst e
    show w_X0_minor_l32 Φ E (n + 1) st _ _ _
    have hb := sbB (i + 1) (by omega) all hall
    have fin : ∀ st', Fr w128 0 0 st0 st' → (∀ s, s ≤ i + 1 → sbN s all = true → sL st' 128 s = dtK (fun k j => sL st0 (124 + (if k < r then k else k + 1)) j) (pcN s) s) → w_X0_minor_b86 Φ (w_X0_minor_l32 Φ E n) st' (Int32.ofNat r) (Int32.ofNat all) (Int32.ofNat (i + 1)) := fun st' g1 g2 => by
      unfold w_X0_minor_b86
      exact k9 (st', _) ⟨succ_of (i + 1), g1, g2⟩
    rw [w_X0_minor_l32, lt_of (by omega) (by omega)]
    refine ⟨fun h => absurd h (by omega), fun _ => ⟨fun hne => ?_, fun heq => ?_⟩⟩
    · rw [decide_eq_false hne] at hb
      refine fin st hF (fun s hs hsb => ?_)
      by_cases e : s = i + 1
      · subst e; rw [← hb] at hsb; cases hsb
      · exact hv s (by omega) hsb
    · rw [decide_eq_true heq] at hb
      refine s_bitCount (by omega) ?_
      have hp1 := (sbR (i + 1) (by omega)).2 (by omega)
      have hp2 := sbP (i + 1) (by omega) all hall hb.symm
      have hp4 := pc4 (i + 1) (by omega)
      rintro _ rfl
      rw [sub1n hp1 (by omega), le_of (by omega) (by omega), succ_of]
      have go : ∀ row, row = (if pcN (i + 1) - 1 < r then pcN (i + 1) - 1 else pcN (i + 1) - 1 + 1) → row < 4 → w_X0_minor_b82 Φ (w_X0_minor_l32 Φ E n) st (Int32.ofNat r) (Int32.ofNat all) (Int32.ofNat (i + 1)) (Int32.ofNat row) (Int32.ofNat (i + 1)) (Int32.ofNat (i + 1)) := fun row hrow hrow4 => by
        unfold w_X0_minor_b82
        refine s_grown (by omega) hrow4 ?_
        rw [vp_of (by omega), nn_of (by omega)]
        refine ⟨by omega, ?_⟩
        rintro _ rfl
        refine fin _ (Fr_L hF (Or.inl ⟨rfl, by omega⟩)) (fun s hs hsb => ?_)
        rw [gL_pL]
        by_cases e : s = i + 1
        · subst e
          rw [if_pos ⟨rfl, rfl⟩]
          obtain ⟨p, hp⟩ : ∃ p, pcN (i + 1) = p + 1 := ⟨pcN (i + 1) - 1, by omega⟩
          rw [hp, dtK]
          congr 1
          refine grS_cg 4 (by omega) (fun j hj hbit => ⟨?_, ?_⟩)
          · rw [hp, Nat.add_sub_cancel] at hrow
            rw [← hrow]
            exact (fr_at hF (Or.inl (by omega)) (by unfold w128; omega)).2.1
          · obtain ⟨k1, k2⟩ := sbC (i + 1) (by omega) all hall j hj hbit hb.symm
            have k3 := pcB (i + 1) (by omega) j hj hbit
            rw [hv _ (by omega) k1]
            congr 1
            omega
        · rw [if_neg (by omega)]; exact hv s (by omega) hsb
      refine ⟨fun hle => go _ ?_ ?_, fun hle => go _ ?_ ?_⟩
      · rw [if_neg (by omega)]
      · omega
      · rw [if_pos (by omega)]
      · omega
  · obtain ⟨st, x⟩ := a
    obtain ⟨e, hF, hv⟩ := hI
    dsimp only at e hF hv
    subst e
    show w_X0_minor_l32 Φ E (n + 1) st _ _ _
    rw [w_X0_minor_l32, lt_of (by omega) (by omega)]
    exact ⟨fun _ => h st hF (hv all (Nat.le_refl _) (sbR all hall).1), fun h => absurd (by omega) h⟩
def allN (N c : Nat) : Nat := if N ≤ c then 2 ^ N - 1 else 2 ^ N - 1 - 2 ^ c
theorem allB : ∀ N, N < 5 → ∀ c, c < 5 → (((1 : Int32) <<< ((Int32.ofNat N) &&& 31)) - 1) &&& ((if N ≤ c then 0 else ((1 : Int32) <<< ((Int32.ofNat c) &&& 31))) ^^^ (-1)) = Int32.ofNat (allN N c) ∧ allN N c < 16 := by decide +kernel
/-- the minor without a row and a column -/
theorem s_minor {st : St} {N r c : Nat} {Φ : St → Int64 → Prop} (hN : 201 ≤ sN st) (hN4 : N < 5) (hc : c < 5) (hr4 : r < 5) (hr : pcN (allN N c) ≤ 3 ∨ 4 ≤ r) (h : ∀ s, Fr w128 0 0 st s → Φ s (dtK (fun k j => sL st (124 + (if k < r then k else k + 1)) j) (pcN (allN N c)) (allN N c))) : w_X0_minor st (Int32.ofNat N) (Int32.ofNat r) (Int32.ofNat c) Φ := by
  obtain ⟨h1, h2⟩ := allB N hN4 c hc
  have go : ∀ z, z = (if N ≤ c then 0 else ((1 : Int32) <<< ((Int32.ofNat c) &&& 31))) → w_X0_minor_b17 Φ st (Int32.ofNat r) z (((1 : Int32) <<< ((Int32.ofNat N) &&& 31)) - 1) := fun z hz => by
    unfold w_X0_minor_b17
    intro v2 e2
    rw [hz, h1] at e2
    subst e2
    rintro _ rfl
    have f0 : Fr w128 0 0 st (putL st 128 0 1) := Fr_L Fr_rf (Or.inl ⟨rfl, by omega⟩)
    refine s_minor_l (by rw [gN_pL]; exact hN) (by rw [gL_pL, if_pos ⟨rfl, rfl⟩]) h2 hr4 hr (fun s f v => ?_)
    unfold w_X0_minor_b92
    rw [vp_of (by omega), nn_of (by omega), v]
    refine ⟨h2, ?_⟩
    have e9 : (fun k j => sL (putL st 128 0 1) (124 + (if k < r then k else k + 1)) j) = (fun k j => sL st (124 + (if k < r then k else k + 1)) j) ∨ True := Or.inr trivial
    have hh := h s (Fr_tr (x := 0) (y := 0) f0 f)
    have e8 : ∀ k s, s < 16 → k ≤ 4 → (k ≤ 3 ∨ 4 ≤ r) → dtK (fun k j => sL (putL st 128 0 1) (124 + (if k < r then k else k + 1)) j) k s = dtK (fun k j => sL st (124 + (if k < r then k else k + 1)) j) k s := fun k => by
      induction k with
      | zero => intro s _ _ _; rfl
      | succ k ih =>
        intro s hs hk hk2
        rw [dtK, dtK]
        congr 1
        refine grS_cg 4 (by omega) (fun j hj hbit => ⟨?_, ?_⟩)
        · rw [gL_pL, if_neg]
          rintro ⟨q1, q2⟩
          split at q1 <;> omega
        · exact ih _ (Nat.lt_of_le_of_lt (Nat.sub_le _ _) hs) (by omega) (by omega)
    rw [e8 _ _ h2 (pc4 _ h2) hr]
    exact hh
  unfold w_X0_minor
  rw [le_of (by omega) (by omega)]
  exact ⟨fun hle => go _ (by rw [if_pos hle]), fun hle => go _ (by rw [if_neg hle])⟩
