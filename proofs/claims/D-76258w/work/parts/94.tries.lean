/-! PLAIN LAW, 55: the best mixture so far -/
set_option maxRecDepth 100000
abbrev Bst := Nat × (Nat × Nat × Nat) × (Int64 × Int64)
def mixF (K G M N p : Nat) (f : Nat → Nat → Nat → Int32) (n : Nat) (s : Nat × Nat × Nat) : Option (Int64 × Int64) := mxO (wLo K G p n (gT s)) (fun i => uR K G M N (gT s i) f) n
def pickF (n : Nat) (s : Nat × Nat × Nat) (v : Int64 × Int64) : Option Bst → Option (Option Bst)
  | none => some (some (n, s, v))
  | some b => (lessR v b.2.2).bind fun d => if 0 < d.1.toInt then some (some (n, s, v)) else some (some b)
def tryS (K G M N p : Nat) (f : Nat → Nat → Nat → Int32) (n : Nat) (s : Nat × Nat × Nat) (o : Option Bst) : Option (Option Bst) := if spB K G p n (gT s) = true then (mixF K G M N p f n s).bind (fun v => pickF n s v o) else some o
/-- a set is tried: none = a number grew too great -/
def tryF (K G M N p : Nat) (f : Nat → Nat → Nat → Int32) (n : Nat) (s : Nat × Nat × Nat) : Option (Option Bst) → Option (Option Bst)
  | none => none
  | some o => tryS K G M N p f n s o
theorem try_b {K G M N p n : Nat} {f : Nat → Nat → Nat → Int32} {s : Nat × Nat × Nat} {o : Option Bst} (h : spB K G p n (gT s) = true) : tryF K G M N p f n s (some o) = (mixF K G M N p f n s).bind (fun v => pickF n s v o) := by
  show tryS K G M N p f n s o = _
  unfold tryS; rw [if_pos h]
theorem try_t {K G M N p n : Nat} {f : Nat → Nat → Nat → Int32} {s : Nat × Nat × Nat} {o : Option Bst} {v : Int64 × Int64} (h : spB K G p n (gT s) = true) (hm : mixF K G M N p f n s = some v) : tryF K G M N p f n s (some o) = pickF n s v o := by
  rw [try_b h, hm]; rfl
theorem try_n {K G M N p n : Nat} {f : Nat → Nat → Nat → Int32} {s : Nat × Nat × Nat} {o : Option Bst} (h : spB K G p n (gT s) = true) (hm : mixF K G M N p f n s = none) : tryF K G M N p f n s (some o) = none := by
  rw [try_b h, hm]; rfl
theorem try_f {K G M N p n : Nat} {f : Nat → Nat → Nat → Int32} {s : Nat × Nat × Nat} {o : Option Bst} (h : spB K G p n (gT s) = false) : tryF K G M N p f n s (some o) = some o := by
  show tryS K G M N p f n s o = _
  unfold tryS; rw [if_neg (by rw [h]; decide)]
theorem pick_n {n : Nat} {s : Nat × Nat × Nat} {v : Int64 × Int64} {b : Bst} (h : lessR v b.2.2 = none) : pickF n s v (some b) = none := by
  show (lessR v b.2.2).bind _ = none
  rw [h]; rfl
theorem pick_t {n : Nat} {s : Nat × Nat × Nat} {v d : Int64 × Int64} {b : Bst} (h : lessR v b.2.2 = some d) (g : 0 < d.1.toInt) : pickF n s v (some b) = some (some (n, s, v)) := by
  show (lessR v b.2.2).bind _ = _
  rw [h, bd_s, if_pos g]
theorem pick_k {n : Nat} {s : Nat × Nat × Nat} {v d : Int64 × Int64} {b : Bst} (h : lessR v b.2.2 = some d) (g : ¬ 0 < d.1.toInt) : pickF n s v (some b) = some (some b) := by
  show (lessR v b.2.2).bind _ = _
  rw [h, bd_s, if_neg g]
/-- the component's record of the best -/
def XB (st : St) (K G p : Nat) : Option Bst → Prop
  | none => sI st 0 23 = 0
  | some b => 1 ≤ b.1 ∧ b.1 ≤ K ∧ sI st 0 23 = Int32.ofNat b.1 ∧ pR st 140 = b.2.2 ∧ 0 < b.2.2.2.toInt ∧ ∀ k, k < b.1 → sI st 137 k = Int32.ofNat (gT b.2.1 k) ∧ pR st (165 + 2 * k) = wLo K G p b.1 (gT b.2.1) k
def wHx (a j : Nat) : Prop := wWx a j ∨ wMx a j ∨ w136 a j ∨ (a = 140 ∧ j < 2) ∨ (a = 143 ∧ j < 2) ∨ (a = 0 ∧ j = 23) ∨ (a = 137 ∧ j < 3) ∨ ((a = 165 ∨ a = 167 ∨ a = 169) ∧ j < 2)
theorem wHx_c {a j : Nat} (h : wHx a j) : (136 ≤ a ∧ a ≤ 137) ∨ (139 ≤ a ∧ a ≤ 143) ∨ (a = 0 ∧ j = 23) ∨ (164 ≤ a ∧ a ≤ 169) := by
  unfold wHx wWx wMx w136 at h; omega
/-- what holds of the component's store while the hull is sought -/
def Xh (st0 st : St) (K G M N : Nat) (f : Nat → Nat → Nat → Int32) : Prop := Fr wHx 0 0 st0 st ∧ Hs st K G M N ∧ pR st 138 = (0, 1) ∧ ∀ q, q < ptN K G → pR st (149 + q) = uR K G M N q f ∧ 0 < (uR K G M N q f).2.toInt
theorem Xh_st {st0 st s : St} {K G M N : Nat} {f : Nat → Nat → Nat → Int32} {W : Nat → Nat → Prop} (hN : 201 ≤ sN st0) (h : Xh st0 st K G M N f) (hF : Fr W 0 0 st s) (hW : ∀ a j, W a j → wHx a j) : Xh st0 s K G M N f := by
  obtain ⟨F, hs, h1, h2⟩ := h
  have hNs : 201 ≤ sN st := Nat.le_trans hN F.1
  have FF : Fr wHx 0 0 st s := Fr_mo hF hW (Nat.le_refl _) (Nat.le_refl _)
  have hp15 := pt15 hs.1 hs.2.1
  refine ⟨Fr_tr (x := 0) (y := 0) F FF, (Hs_q FF hNs (fun a j h hw => by have := wHx_c hw; omega) hs).1, ?_, fun q hq => ⟨?_, (h2 q hq).2⟩⟩
  · rw [pR_at FF (by omega) (fun j hj hw => by have := wHx_c hw; omega)]; exact h1
  · rw [pR_at FF (by omega) (fun j hj hw => by have := wHx_c hw; omega)]; exact (h2 q hq).1
theorem XB_st {st s : St} {K G p : Nat} {W : Nat → Nat → Prop} {o : Option Bst} (hK : K ≤ 3) (hN : 201 ≤ sN st) (hF : Fr W 0 0 st s) (hW : ∀ a j, W a j → wWx a j ∨ wMx a j ∨ w136 a j ∨ (a = 143 ∧ j < 2)) (h : XB st K G p o) : XB s K G p o := by
  have hw : ∀ a j, W a j → (a = 164 ∨ a = 166 ∨ a = 168) ∨ a = 139 ∨ a = 141 ∨ a = 142 ∨ a = 136 ∨ a = 143 := fun a j h => by have := hW a j h; unfold wWx wMx w136 at this; omega
  cases o with
  | none => exact (fr_at hF (Or.inl (by omega)) (fun h => by have := hw _ _ h; omega)).1.trans h
  | some b =>
    obtain ⟨h1, h2, h3, h4, h5, h6⟩ := h
    refine ⟨h1, h2, (fr_at hF (Or.inl (by omega)) (fun h => by have := hw _ _ h; omega)).1.trans h3, (pR_at hF (by omega) (fun j hj h => by have := hw _ _ h; omega)).trans h4, h5, fun k hk => ?_⟩
    obtain ⟨h7, h8⟩ := h6 k hk
    exact ⟨(fr_at hF (Or.inl (by omega)) (fun h => by have := hw _ _ h; omega)).1.trans h7, (pR_at hF (by omega) (fun j hj h => by have := hw _ _ h; omega)).trans h8⟩
/-- the component keeps what is best -/
theorem x_keeps {st : St} {n K G p : Nat} {s : Nat × Nat × Nat} {v : Int64 × Int64} {Φ : St → Prop} (hN : 201 ≤ sN st) (hn : 1 ≤ n ∧ n ≤ K) (hK : K ≤ 3) (hv : ∀ k, k < n → sI st 136 k = Int32.ofNat (gT s k)) (h139 : pR st 139 = v) (hp : 0 < v.2.toInt) (hW : ∀ k, k < n → pR st (164 + 2 * k) = wLo K G p n (gT s) k) (h : ∀ s', Fr wHx 0 0 st s' → (∀ k, k < n → sI s' 136 k = Int32.ofNat (gT s k)) → XB s' K G p (some (n, s, v)) → Φ s') : w_X0_keepsBest st (Int32.ofNat n) Φ := by
  unfold w_X0_keepsBest w_X2_as
  intro s1 e1 s7 e7 s8 e8
  have F8 : Fr wHx 0 0 st s8 := by
    rw [e8, e7, e1]
    exact Fr_L (Fr_L (Fr_I Fr_rf (Or.inl (by unfold wHx; omega))) (Or.inl (by unfold wHx; omega))) (Or.inl (by unfold wHx; omega))
  have i8 : ∀ a j, ¬ (a = 0 ∧ j = 23) → sI s8 a j = sI st a j := fun a j h => by rw [e8, gI_pL, e7, gI_pL, e1, gI_pI, if_neg h]
  have l8 : ∀ a, a ≠ 140 → pR s8 a = pR st a := fun a h => by
    unfold pR
    rw [e8, gL_pL, if_neg (by omega), gL_pL, if_neg (by omega), e7, gL_pL, if_neg (by omega), gL_pL, if_neg (by omega), e1, gL_pI, gL_pI]
  have v23 : sI s8 0 23 = Int32.ofNat n := by rw [e8, gI_pL, e7, gI_pL, e1, gI_pI, if_pos ⟨rfl, rfl⟩]
  have v140 : pR s8 140 = v := by
    rw [← h139]
    unfold pR
    rw [e8, gL_pL, if_neg (by omega), gL_pL, if_pos ⟨rfl, rfl⟩, e7, gL_pL, if_pos ⟨rfl, rfl⟩, gL_pL, if_neg (by omega), e1, gL_pI, gL_pI]
  clear e1 e7 e8
  refine loop_up (α := St × Int32) (L := fun m a => w_X0_keepsBest_l19 Φ (fun (s35 : St) => w_X0_keepsBest_b58 Φ s35) m a.1 (Int32.ofNat n) a.2) n (fun i a => a.2 = Int32.ofNat i ∧ Fr (fun a j => (a = 137 ∧ j < 3) ∨ ((a = 165 ∨ a = 167 ∨ a = 169) ∧ j < 2)) 0 0 s8 a.1 ∧ ∀ k, k < i → sI a.1 137 k = Int32.ofNat (gT s k) ∧ pR a.1 (165 + 2 * k) = wLo K G p n (gT s) k) (fun m i a hi hA k9 => ?_) (fun m a hA => ?_) gFU 0 (s8, 0) (by omega) (gFU_big (by omega)) ⟨rfl, Fr_rf, fun k hk => absurd hk (by omega)⟩
  · obtain ⟨s1, x⟩ := a
    obtain ⟨e, F, w⟩ := hA
    dsimp only at e F w
    subst e
    show w_X0_keepsBest_l19 Φ _ (m + 1) s1 _ _
    have y136 : sI s1 136 i = Int32.ofNat (gT s i) := by
      rw [(fr_at F (Or.inl (by have := F8.1; omega)) (by omega)).1, i8 136 i (by omega)]; exact hv i hi
    have y164 : pR s1 (164 + 2 * i) = wLo K G p n (gT s) i := by
      rw [pR_at F (by have := F8.1; omega) (fun j hj => by omega), l8 _ (by omega)]; exact hW i hi
    rw [w_X0_keepsBest_l19, le_of (by omega) (by omega), vp_of (by omega), nn_of (by omega), y136]
    refine ⟨fun h => absurd h (by omega), fun _ => ⟨by omega, ?_⟩⟩
    unfold w_X2_as
    intro s19 e19 s25 e25 s26 e26
    have hk := k9 (s26, Int32.ofNat i + 1)
    dsimp only at hk
    refine hk ⟨succ_of i, ?_, fun k hk => ?_⟩
    · rw [e26, e25, e19]
      exact Fr_L (Fr_L (Fr_I F (Or.inl (by omega))) (Or.inl (by omega))) (Or.inl (by omega))
    · have i26 : sI s26 137 k = if k = i then Int32.ofNat (gT s i) else sI s1 137 k := by
        rw [e26, gI_pL, e25, gI_pL, e19, gI_pI]
        by_cases e : k = i
        · rw [if_pos ⟨rfl, e⟩, if_pos e]
        · rw [if_neg (fun h => e h.2), if_neg e]
      have l26 : pR s26 (165 + 2 * k) = if k = i then pR s1 (164 + 2 * i) else pR s1 (165 + 2 * k) := by
        by_cases e : k = i
        · subst e
          rw [if_pos rfl]
          unfold pR
          rw [e26, gL_pL, if_neg (by omega), gL_pL, if_pos ⟨rfl, rfl⟩, e25, gL_pL, if_pos ⟨rfl, rfl⟩, gL_pL, if_neg (by omega), e19, gL_pI, gL_pI]
        · rw [if_neg e]
          unfold pR
          rw [e26, gL_pL, if_neg (by omega), gL_pL, if_neg (by omega), e25, gL_pL, if_neg (by omega), gL_pL, if_neg (by omega), e19, gL_pI, gL_pI]
      rw [i26, l26]
      by_cases e : k = i
      · rw [if_pos e, if_pos e, y164, e]; exact ⟨rfl, rfl⟩
      · rw [if_neg e, if_neg e]; exact w k (by omega)
  · obtain ⟨s1, x⟩ := a
    obtain ⟨e, F, w⟩ := hA
    dsimp only at e F w
    subst e
    show w_X0_keepsBest_l19 Φ _ (m + 1) s1 _ _
    rw [w_X0_keepsBest_l19]
    refine ⟨fun _ => ?_, fun h => absurd (Int32.le_refl _) h⟩
    unfold w_X0_keepsBest_b58
    have hN8 : 201 ≤ sN s8 := Nat.le_trans hN F8.1
    refine h s1 (Fr_tr (x := 0) (y := 0) F8 (Fr_mo F (fun a j h => by unfold wHx; omega) (Nat.le_refl _) (Nat.le_refl _))) (fun k hk => ?_) ⟨hn.1, hn.2, ?_, ?_, hp, w⟩
    · rw [(fr_at F (Or.inl (by omega)) (by omega)).1, i8 136 k (by omega)]; exact hv k hk
    · rw [(fr_at F (Or.inl (by omega)) (by omega)).1]; exact v23
    · rw [pR_at F (by omega) (fun j hj => by omega)]; exact v140
theorem isAb {st : St} {a : Nat} {Φ : Int32 → Prop} (h1 : 0 < (pR st a).1.toInt → Φ 1) (h0 : ¬ 0 < (pR st a).1.toInt → Φ 0) : w_X2_isAbove st a Φ := by
  unfold w_X2_isAbove
  have hle : (sL st a 0 ≤ 0) = ¬ (0 < (pR st a).1.toInt) := by
    apply propext
    show _ ↔ ¬ (0 < (sL st a 0).toInt)
    rw [Int64.le_iff_toInt_le]
    show _ ≤ (0 : Int) ↔ _
    omega
  rw [hle]
  exact ⟨h0, fun h => h1 (Classical.byContradiction h)⟩
/-- the component tries a set: then it steps on -/
theorem x_try {st0 st : St} {K G M N p n : Nat} {f : Nat → Nat → Nat → Int32} {s : Nat × Nat × Nat} {o : Option Bst} {Φ : St → Nat → Prop} {Φa : St → Prop} {E93 : St → Int32 → Int32 → Prop} {K24 : St → Int32 → Int32 → Int32 → Prop} (hN : 201 ≤ sN st0) (hX : Xh st0 st K G M N f) (hp : p < ptN K G) (hV : Val (ptN K G) n s) (hnK : n ≤ K) (hB : XB st K G p o) (hv : ∀ k, k < n → sI st 136 k = Int32.ofNat (gT s k)) (h1 : ∀ o', tryF K G M N p f n s (some o) = some o' → ∀ s', Xh st0 s' K G M N f → XB s' K G p o' → (∀ k, k < n → sI s' 136 k = Int32.ofNat (gT s k)) → w_X0_hullOf_b83 Φ Φa E93 K24 s' (Int32.ofNat p) (Int32.ofNat n)) (h2 : tryF K G M N p f n s (some o) = none → ∀ s', Fr wHx 0 0 st0 s' → jkA s' Φa) : w_X0_splits st (Int32.ofNat p) 136 (Int32.ofNat n) (fun (s17 : St) (r16 : Int32) => ((r16 = 0) → w_X0_hullOf_b83 Φ Φa E93 K24 s17 (Int32.ofNat p) (Int32.ofNat n)) ∧ ((¬ r16 = 0) → w_X0_mixes s17 136 (Int32.ofNat n) (fun (s38 : St) (r37 : Nat) => (((sI s38 0 23) = 0) → w_X0_hullOf_b78 Φ Φa E93 K24 s38 (Int32.ofNat p) (Int32.ofNat n)) ∧ ((¬ (sI s38 0 23) = 0) → w_X2_less s38 143 r37 140 (fun (s61 : St) (r60 : Nat) => w_X2_isAbove s61 r60 (fun (r70 : Int32) => ((r70 = 0) → w_X0_hullOf_b83 Φ Φa E93 K24 s61 (Int32.ofNat p) (Int32.ofNat n)) ∧ ((¬ r70 = 0) → w_X0_hullOf_b78 Φ Φa E93 K24 s61 (Int32.ofNat p) (Int32.ofNat n)))) Φa)) Φa)) Φa := by
  obtain ⟨n1, n3, g1, g2⟩ := gT_lt hV
  have hs := hX.2.1
  have q1 := hs.1
  have q2 := hs.2.1
  have hp15 := pt15 q1 q2
  have hNs : 201 ≤ sN st := Nat.le_trans hN hX.1.1
  have k136 : ∀ {W : Nat → Nat → Prop} {s1 s2 : St}, Fr W 0 0 s1 s2 → 201 ≤ sN s1 → (∀ j, ¬ W 136 j) → (∀ k, k < n → sI s1 136 k = Int32.ofNat (gT s k)) → ∀ k, k < n → sI s2 136 k = Int32.ofNat (gT s k) := fun F hn hw h k hk => (fr_at F (Or.inl (by omega)) (hw k)).1.trans (h k hk)
  have hWx : ∀ a j, wWx a j → wHx a j := fun a j h => Or.inl h
  have hMx : ∀ a j, wMx a j → wHx a j := fun a j h => Or.inr (Or.inl h)
  refine x_splits hs hp ⟨n1, n3⟩ g1 g2 hv (fun hsp s17 F17 hW => ⟨fun h => absurd h (by decide), fun _ => ?_⟩) (fun hsp s17 F17 => ⟨fun _ => ?_, fun h => absurd rfl h⟩)
  · have hX17 := Xh_st hN hX F17 hWx
    have hB17 := XB_st (by omega) hNs F17 (fun a j h => Or.inl h) hB
    have hv17 := k136 F17 hNs (fun j h => by unfold wWx at h; omega) hv
    have hN17 : 201 ≤ sN s17 := Nat.le_trans hNs F17.1
    obtain ⟨hok, -⟩ := spB_t.mp hsp
    obtain ⟨-, hw2⟩ := wB q1 q2 ⟨n1, n3⟩ hp g1 g2 hok
    refine x_mixes (S := gT s) (W := wLo K G p n (gT s)) (U := fun i => uR K G M N (gT s i) f) hN17 n3 (fun i hi => ⟨hv17 i hi, by have := g1 i hi; omega⟩) hW (fun i hi => (hX17.2.2.2 _ (g1 i hi)).1) (fun i hi => ⟨(hw2 i hi).2.1, (hX17.2.2.2 _ (g1 i hi)).2⟩) hX17.2.2.1 (fun v hm s38 F38 p38 => ?_) (fun hm s38 F38 => ?_)
    · have hX38 := Xh_st hN hX17 F38 hMx
      have hB38 := XB_st (by omega) hN17 F38 (fun a j h => Or.inr (Or.inl h)) hB17
      have hv38 := k136 F38 hN17 (fun j h => by unfold wMx at h; omega) hv17
      have hN38 : 201 ≤ sN s38 := Nat.le_trans hN17 F38.1
      have hW38 : ∀ k, k < n → pR s38 (164 + 2 * k) = wLo K G p n (gT s) k := fun k hk => (pR_at F38 (by omega) (fun j hj h => by unfold wMx at h; omega)).trans (hW k hk)
      have pv : 0 < v.2.toInt := mxO_p n v (fun i hi => ⟨(hw2 i hi).2.1, (hX17.2.2.2 _ (g1 i hi)).2⟩) hm
      have tr : ∀ o', pickF n s v o = o' → tryF K G M N p f n s (some o) = o' := fun o' h => (try_t hsp hm).trans h
      have keep : ∀ s1, Xh st0 s1 K G M N f → (∀ k, k < n → sI s1 136 k = Int32.ofNat (gT s k)) → pR s1 139 = v → (∀ k, k < n → pR s1 (164 + 2 * k) = wLo K G p n (gT s) k) → tryF K G M N p f n s (some o) = some (some (n, s, v)) → w_X0_hullOf_b78 Φ Φa E93 K24 s1 (Int32.ofNat p) (Int32.ofNat n) := fun s1 x1 x2 x3 x4 x5 => by
        unfold w_X0_hullOf_b78
        exact x_keeps (Nat.le_trans hN x1.1.1) ⟨n1, hnK⟩ (by omega) x2 x3 pv x4 (fun s' F' y1 y2 => h1 _ x5 s' (Xh_st hN x1 F' (fun _ _ h => h)) y2 y1)
      cases ho : o with
      | none =>
        rw [ho] at hB38 tr
        refine ⟨fun _ => keep s38 hX38 hv38 p38 hW38 (by rw [ho]; exact tr _ rfl), fun h => absurd hB38 h⟩
      | some b =>
        rw [ho] at hB38 tr
        obtain ⟨b1, b2, b3, b4, b5, b6⟩ := hB38
        rw [b3]
        refine ⟨fun h => absurd h (nz_of b1 (by omega)), fun _ => ?_⟩
        refine s_X2_less (by rw [p38]; exact pv) (by rw [b4]; exact b5) (fun d hd => ?_) (fun hd => ?_)
        · rw [p38, b4] at hd
          have F61 : Fr (fun a j => a = 143 ∧ j < 2) 0 0 s38 (putP s38 143 d) := Fr_P Fr_rf (fun j hj => ⟨rfl, hj⟩)
          have p61 : pR (putP s38 143 d) 143 = d := pR_pP
          generalize putP s38 143 d = s61 at F61 p61
          have hX61 := Xh_st hN hX38 F61 (fun a j h => by unfold wHx; omega)
          have hv61 := k136 F61 hN38 (fun j h => by omega) hv38
          have hB61 : XB s61 K G p (some b) := XB_st (by omega) hN38 F61 (fun a j h => Or.inr (Or.inr (Or.inr h))) ⟨b1, b2, b3, b4, b5, b6⟩
          refine isAb (fun h => ⟨fun h => absurd h (by decide), fun _ => ?_⟩) (fun h => ⟨fun _ => ?_, fun h => absurd rfl h⟩)
          · rw [p61] at h
            refine keep s61 hX61 hv61 ?_ (fun k hk => ?_) (by rw [ho]; exact tr _ (pick_t hd h))
            · rw [pR_at F61 (by omega) (fun j hj h => by omega)]; exact p38
            · rw [pR_at F61 (by omega) (fun j hj h => by omega)]; exact hW38 k hk
          · rw [p61] at h
            exact h1 (some b) (by rw [ho]; exact tr _ (pick_k hd h)) s61 hX61 hB61 hv61
        · rw [p38, b4] at hd
          exact h2 (by rw [ho]; exact tr _ (pick_n hd)) s38 hX38.1
    · exact h2 (try_n hsp hm) s38 (Xh_st hN hX17 F38 hMx).1
  · refine h1 o (try_f hsp) s17 (Xh_st hN hX F17 hWx) (XB_st (by omega) hNs F17 (fun a j h => Or.inl h) hB) (k136 F17 hNs (fun j h => by unfold wWx at h; omega) hv)
theorem Rn_none {K G M N p n P : Nat} {f : Nat → Nat → Nat → Int32} {r : Option (Option Bst)} : ∀ (l : Nat) (s : Option (Nat × Nat × Nat)), Rn P n (tryF K G M N p f n) l s none r → r = none
  | 0, _, h => h.2
  | l + 1, _, ⟨_, _, h⟩ => Rn_none l _ h
/-- the component's sets of one size -/
theorem x_hl {st0 : St} {K G M N p n : Nat} {f : Nat → Nat → Nat → Int32} {Φ : St → Nat → Prop} {Φa : St → Prop} {E93 E96 : St → Int32 → Int32 → Prop} (hN : 201 ≤ sN st0) (hp : p < ptN K G) (hnK : n ≤ K) {r : Option (Option Bst)} (h1 : ∀ o', r = some o' → ∀ s', Xh st0 s' K G M N f → XB s' K G p o' → E93 s' (Int32.ofNat p) (Int32.ofNat n)) (h2 : r = none → ∀ s', Fr wHx 0 0 st0 s' → jkA s' Φa) : ∀ (l : Nat) (s : Nat × Nat × Nat) (o : Option Bst) (m : Nat) (st : St), Val (ptN K G) n s → Rn (ptN K G) n (tryF K G M N p f n) l (some s) (some o) r → l < m → Xh st0 st K G M N f → XB st K G p o → (∀ k, k < n → sI st 136 k = Int32.ofNat (gT s k)) → w_X0_hullOf_l24 Φ Φa E93 E96 m st (Int32.ofNat p) (Int32.ofNat n) 1
  | 0, _, _, _, _, _, hR, _, _, _, _ => by cases hR.1
  | l + 1, s, o, m, st, hV, hR, hm, hX, hB, hv => by
    obtain ⟨m, rfl⟩ : ∃ g, m = g + 1 := ⟨m - 1, by omega⟩
    have hR' : Rn (ptN K G) n (tryF K G M N p f n) l (nxS (ptN K G) n s) (tryF K G M N p f n s (some o)) r := by
      obtain ⟨k, e, h⟩ := Rn_inv hR
      cases e
      exact h
    have hp15 := pt15 hX.2.1.1 hX.2.1.2.1
    rw [w_X0_hullOf_l24]
    refine ⟨fun h => absurd h (by decide), fun _ => ?_⟩
    refine x_try hN hX hp hV hnK hB hv (fun o' ho s' X' B' v' => ?_) (fun ho s' F' => ?_)
    · rw [ho] at hR'
      unfold w_X0_hullOf_b83
      have hNs : 201 ≤ sN s' := Nat.le_trans hN X'.1.1
      refine x_next hNs hp15.1 hV X'.2.1.2.2.2.2.2.2.2.2.2.2.2.2.1 v' (fun hn => ⟨fun h => absurd rfl h, fun _ => ?_⟩) (fun t ht s2 F2 v2 => ⟨fun _ => ?_, fun h => absurd h (by decide)⟩)
      · rw [hn] at hR'
        exact h1 o' (Rn_end hR') s' X' B'
      · rw [ht] at hR'
        have hK3 := X'.2.1.1
        exact x_hl hN hp hnK h1 h2 l t o' m s2 (val_nx hV ht) hR' (by omega) (Xh_st hN X' F2 (fun a j h => Or.inr (Or.inr (Or.inl h)))) (XB_st (by omega) hNs F2 (fun a j h => Or.inr (Or.inr (Or.inl h))) B') v2
    · rw [ho] at hR'
      exact h2 (Rn_none l _ hR') s' F'
