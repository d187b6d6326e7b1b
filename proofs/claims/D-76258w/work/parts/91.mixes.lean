/-! PLAIN LAW, 52: values mixed -/
set_option maxRecDepth 100000
theorem isR_p {u w : Int64} {v : Int64 × Int64} (hw : 0 < w.toInt) (h : isR u w = some v) : 0 < v.2.toInt := by
  rw [isR_pos hw] at h; cases h; exact (low_pos hw).1
theorem mulO_s {a b v : Int64} (h : mulO a b = some v) : fit (a.toInt * b.toInt) ∧ v = a * b := by
  unfold mulO at h
  split at h
  · cases h; exact ⟨by assumption, rfl⟩
  · cases h
theorem mulO_p {a b v : Int64} (ha : 0 < a.toInt) (hb : 0 < b.toInt) (h : mulO a b = some v) : 0 < v.toInt := by
  obtain ⟨h1, rfl⟩ := mulO_s h
  exact fit_nz ha hb h1
theorem bd_o {α β : Type} {o : Option α} {f : α → Option β} {v : β} (h : o.bind f = some v) : ∃ a, o = some a ∧ f a = some v := by
  cases o with
  | none => cases h
  | some a => exact ⟨a, rfl, h⟩
theorem timesR_p {x y v : Int64 × Int64} (hx : 0 < x.2.toInt) (hy : 0 < y.2.toInt) (h : timesR x y = some v) : 0 < v.2.toInt := by
  unfold timesR at h
  obtain ⟨a, -, h⟩ := bd_o h
  obtain ⟨w, hw, h⟩ := bd_o h
  exact isR_p (mulO_p hx hy hw) h
theorem addR_p {x y v : Int64 × Int64} (hx : 0 < x.2.toInt) (hy : 0 < y.2.toInt) (h : addR x y = some v) : 0 < v.2.toInt := by
  unfold addR at h
  obtain ⟨a, -, h⟩ := bd_o h
  obtain ⟨b, -, h⟩ := bd_o h
  obtain ⟨c, -, h⟩ := bd_o h
  obtain ⟨w, hw, h⟩ := bd_o h
  exact isR_p (mulO_p hx hy hw) h
theorem lessR_p {x y v : Int64 × Int64} (hx : 0 < x.2.toInt) (hy : 0 < y.2.toInt) (h : lessR x y = some v) : 0 < v.2.toInt := by
  unfold lessR at h
  obtain ⟨a, -, h⟩ := bd_o h
  obtain ⟨b, -, h⟩ := bd_o h
  obtain ⟨c, -, h⟩ := bd_o h
  obtain ⟨w, hw, h⟩ := bd_o h
  exact isR_p (mulO_p hx hy hw) h
/-- the sum of the first weights times values -/
def mxO (W U : Nat → Int64 × Int64) : Nat → Option (Int64 × Int64)
  | 0 => some (0, 1)
  | i + 1 => (mxO W U i).bind fun a => (timesR (W i) (U i)).bind fun t => addR a t
theorem mxO_p {W U : Nat → Int64 × Int64} : ∀ n v, (∀ i, i < n → 0 < (W i).2.toInt ∧ 0 < (U i).2.toInt) → mxO W U n = some v → 0 < v.2.toInt
  | 0, v, _, h => by cases h; decide
  | n + 1, v, hp, h => by
    rw [mxO] at h
    obtain ⟨a, ha, h⟩ := bd_o h
    obtain ⟨t, ht, h⟩ := bd_o h
    exact addR_p (mxO_p n a (fun i hi => hp i (by omega)) ha) (timesR_p (hp n (by omega)).1 (hp n (by omega)).2 ht) h
theorem mxO_none {W U : Nat → Int64 × Int64} : ∀ d i, mxO W U i = none → mxO W U (i + d) = none
  | 0, _, h => h
  | d + 1, i, h => by rw [show i + (d + 1) = (i + d) + 1 by omega, mxO, mxO_none d i h]; rfl
def wMx (a j : Nat) : Prop := (a = 139 ∨ a = 141 ∨ a = 142) ∧ j < 2
theorem pR_at {W : Nat → Nat → Prop} {x y : Nat} {st s : St} {a : Nat} (hF : Fr W x y st s) (ha : a < sN st) (hw : ∀ j, j < 2 → ¬ W a j) : pR s a = pR st a := by
  unfold pR
  rw [(fr_at hF (Or.inl ha) (hw 0 (by omega))).2.1, (fr_at hF (Or.inl ha) (hw 1 (by omega))).2.1]
theorem x_mixes {st : St} {n : Nat} {S : Nat → Nat} {W U : Nat → Int64 × Int64} {Φ : St → Nat → Prop} {Φa : St → Prop} (hN : 201 ≤ sN st) (hn : n ≤ 3) (hv : ∀ i, i < n → sI st 136 i = Int32.ofNat (S i) ∧ S i < 15) (hW : ∀ i, i < n → pR st (164 + 2 * i) = W i) (hU : ∀ i, i < n → pR st (149 + S i) = U i) (hp : ∀ i, i < n → 0 < (W i).2.toInt ∧ 0 < (U i).2.toInt) (h138 : pR st 138 = (0, 1)) (h1 : ∀ v, mxO W U n = some v → ∀ s, Fr wMx 0 0 st s → pR s 139 = v → Φ s 139) (h2 : mxO W U n = none → ∀ s, Fr wMx 0 0 st s → jkA s Φa) : w_X0_mixes st 136 (Int32.ofNat n) Φ Φa := by
  unfold w_X0_mixes w_X2_as
  intro s1 e1 s3 e3
  have F3 : Fr wMx 0 0 st s3 := by rw [e3, e1]; exact Fr_L (Fr_L Fr_rf (Or.inl ⟨Or.inl rfl, by omega⟩)) (Or.inl ⟨Or.inl rfl, by omega⟩)
  have p3 : pR s3 139 = (0, 1) := by
    rw [← h138, e3, e1]
    unfold pR
    rw [gL_pL, if_neg (by omega), gL_pL, if_pos ⟨rfl, rfl⟩, gL_pL, if_pos ⟨rfl, rfl⟩, gL_pL, if_neg (by omega)]
  clear e1 e3
  refine loop_up (α := St × Int32) (L := fun m a => w_X0_mixes_l14 Φ Φa (fun (s64 : St) => w_X0_mixes_b75 Φ Φa s64) m a.1 136 (Int32.ofNat n) a.2) n (fun i a => a.2 = Int32.ofNat i ∧ Fr wMx 0 0 st a.1 ∧ mxO W U i = some (pR a.1 139)) (fun m i a hi hA k9 => ?_) (fun m a hA => ?_) gFU 0 (s3, 0) (by omega) (gFU_big (by omega)) ⟨rfl, F3, by rw [p3]; rfl⟩
  · obtain ⟨s, x⟩ := a
    obtain ⟨e, F, v⟩ := hA
    dsimp only at e F v
    subst e
    show w_X0_mixes_l14 Φ Φa _ (m + 1) s _ _ _
    obtain ⟨z1, z2⟩ := hv i hi
    have z3 : sI s 136 i = Int32.ofNat (S i) := (fr_at F (Or.inl (by omega)) (by unfold wMx; omega)).1.trans z1
    have w3 : pR s (164 + 2 * i) = W i := (pR_at F (by omega) (fun j hj h => by unfold wMx at h; omega)).trans (hW i hi)
    have u3 : pR s (149 + S i) = U i := (pR_at F (by omega) (fun j hj h => by unfold wMx at h; omega)).trans (hU i hi)
    obtain ⟨pw, pu⟩ := hp i hi
    have pa := mxO_p i _ (fun k hk => hp k (by omega)) v
    rw [w_X0_mixes_l14, le_of (by omega) (by omega), vp_of (by omega), nn_of (by omega), z3, vp_of (by omega), nn_of (by omega)]
    refine ⟨fun h => absurd h (by omega), fun _ => ⟨by omega, z2, ?_⟩⟩
    have dead : mxO W U (i + 1) = none → mxO W U n = none := fun h => by
      have := mxO_none (n - (i + 1)) (i + 1) h
      rw [show i + 1 + (n - (i + 1)) = n by omega] at this; exact this
    refine s_X2_times (by rw [w3]; exact pw) (by rw [u3]; exact pu) (fun t ht => ?_) (fun ht => ?_)
    · rw [w3, u3] at ht
      have Ft : Fr wMx 0 0 st (putP s 141 t) := Fr_P F (fun j hj => ⟨Or.inr (Or.inl rfl), hj⟩)
      have e9 : pR (putP s 141 t) 139 = pR s 139 := pR_pN (by omega)
      have e8 : pR (putP s 141 t) 141 = t := pR_pP
      refine s_X2_add (by rw [e9]; exact pa) (by rw [e8]; exact timesR_p pw pu ht) (fun r hr => ?_) (fun hr => ?_)
      · rw [e9, e8] at hr
        unfold w_X2_as
        intro s54 e54 s56 e56
        have Fr2 : Fr wMx 0 0 st s56 := by
          rw [e56, e54]
          exact Fr_L (Fr_L (Fr_P Ft (fun j hj => ⟨Or.inr (Or.inr rfl), hj⟩)) (Or.inl ⟨Or.inl rfl, by omega⟩)) (Or.inl ⟨Or.inl rfl, by omega⟩)
        have p56 : pR s56 139 = r := by
          have e7 : pR (putP (putP s 141 t) 142 r) 142 = r := pR_pP
          rw [← e7, e56, e54]
          unfold pR
          rw [gL_pL, if_neg (by omega), gL_pL, if_pos ⟨rfl, rfl⟩, gL_pL, if_pos ⟨rfl, rfl⟩, gL_pL, if_neg (by omega)]
        clear e54 e56
        have hk := k9 (s56, Int32.ofNat i + 1)
        dsimp only at hk
        exact hk ⟨succ_of i, Fr2, by rw [p56, mxO, v, bd_s, ht, bd_s, hr]⟩
      · rw [e9, e8] at hr
        exact h2 (dead (by rw [mxO, v, bd_s, ht, bd_s, hr])) _ Ft
    · rw [w3, u3] at ht
      exact h2 (dead (by rw [mxO, v, bd_s, ht]; rfl)) s F
  · obtain ⟨s, x⟩ := a
    obtain ⟨e, F, v⟩ := hA
    dsimp only at e F v
    subst e
    show w_X0_mixes_l14 Φ Φa _ (m + 1) s _ _ _
    rw [w_X0_mixes_l14]
    refine ⟨fun _ => ?_, fun h => absurd (Int32.le_refl _) h⟩
    unfold w_X0_mixes_b75
    exact h1 _ v s F rfl
/-- the reference mixes: marked if a number grows too great -/
theorem m_mixes {st : St} {K G M N n : Nat} {S : Nat → Nat} {W : Nat → Int64 × Int64} {c : Bool} {Φ : St → Prop} (hN : 201 ≤ sN st) (hs : Hs st K G M N) (hn : 1 ≤ n ∧ n ≤ 3) (h36 : sI st 175 36 = Int32.ofNat n) (hv : ∀ i, i < n → sI st 197 i = Int32.ofNat (S i) ∧ S i < ptN K G) (hc : sI st 175 20 = ib c) (hm : c = false → Mm st K G M N (gmF st)) (hD : 0 < (sL st 175 38).toInt) (hW : ∀ i, i < n → lowR (sL st 198 i) (sL st 175 38) = W i) (h : ∀ s, Fr wU 0 0 st s → sI s 175 20 = ib (c || (mxO W (fun i => uR K G M N (S i) (gmF st)) n).isNone) → (c = false → ∀ v, mxO W (fun i => uR K G M N (S i) (gmF st)) n = some v → (sL s 175 18, sL s 175 19) = v) → ((c || (mxO W (fun i => uR K G M N (S i) (gmF st)) n).isNone) = false → Mm s K G M N (gmF st)) → Φ s) : w_X4_mixes st Φ := by
  have hh := hs
  obtain ⟨q1, q2, q3, q4, q5, q6, q7, q8, -⟩ := hh
  have hp15 := pt15 q1 q2
  generalize hUU : (fun i => uR K G M N (S i) (gmF st)) = U at h
  have hU : ∀ i, U i = uR K G M N (S i) (gmF st) := fun i => by rw [← hUU]
  have nU2 : ∀ a j, wU a j → (a = 175 ∧ j ≤ 30) ∨ (188 ≤ a ∧ a ≤ 196) := fun a j h => by unfold wU wTm wKy wKm wR at h; omega
  unfold w_X4_mixes
  refine loop_up (α := St × Int64 × Int64 × Int32) (L := fun m a => w_X4_mixes_l7 Φ (fun (s43 : St) => w_X4_mixes_b100 Φ s43) m a.1 a.2.1 a.2.2.1 a.2.2.2) n (fun i a => a.2.2.2 = Int32.ofNat i ∧ Fr wU 0 0 st a.1 ∧ sI a.1 175 20 = ib (c || (mxO W U i).isNone) ∧ ((c || (mxO W U i).isNone) = false → mxO W U i = some (a.2.1, a.2.2.1) ∧ Mm a.1 K G M N (gmF st)) ∧ (i = 0 ∨ (sL a.1 175 18, sL a.1 175 19) = (a.2.1, a.2.2.1))) (fun m i a hi hA k9 => ?_) (fun m a hA => ?_) gFU 0 (st, 0, 1, 0) (by omega) (gFU_big (by omega)) ⟨rfl, Fr_rf, by rw [hc]; cases c <;> rfl, fun e => ⟨rfl, hm (Bool.or_eq_false_iff.mp e).1⟩, Or.inl rfl⟩
  · obtain ⟨s, x1, x3, x⟩ := a
    obtain ⟨e, F, cs, v, -⟩ := hA
    dsimp only at e F cs v
    subst e
    show w_X4_mixes_l7 Φ _ (m + 1) s _ _ _
    obtain ⟨z1, z2⟩ := hv i hi
    have hNs : 201 ≤ sN s := Nat.le_trans hN F.1
    obtain ⟨hss, -⟩ := Hs_q F hN (fun a j h hw => by have := nU2 a j hw; omega) hs
    have gs : gmF s = gmF st := gm_eq F hN (fun j hw => nU hw)
    have z3 : sI s 197 i = Int32.ofNat (S i) := (fr_at F (Or.inl (by omega)) (fun h => by have := nU2 _ _ h; omega)).1.trans z1
    have z36 : sI s 175 36 = Int32.ofNat n := (fr_at F (Or.inl (by omega)) (fun h => by have := nU2 _ _ h; omega)).1.trans h36
    rw [w_X4_mixes_l7, z36, le_of (by omega) (by omega), vp_of (by omega), nn_of (by omega), z3]
    refine ⟨fun h => absurd h (by omega), fun _ => ⟨by omega, ?_⟩⟩
    generalize hci : (c || (mxO W U i).isNone) = ci at cs v
    refine m_u (c := ci) hNs hss z2 cs (fun e => by rw [gs]; exact (v e).2) (fun s4 F4 c4 v4 => ?_)
    rw [gs] at v4
    intro v11 e11 v13 e13
    have Fs4 : Fr wU 0 0 st s4 := Fr_tr (x := 0) (y := 0) F F4
    have y38 : sL s4 175 38 = sL st 175 38 := (fr_at Fs4 (Or.inl (by omega)) (fun h => by have := nU2 _ _ h; omega)).2.1
    have y198 : sL s4 198 i = sL st 198 i := (fr_at Fs4 (Or.inl (by omega)) (fun h => by have := nU2 _ _ h; omega)).2.1
    rw [y38, y198]
    refine s_lowest c4 (fun _ => by omega) (fun s16 F16 c16 v16 => ?_)
    have wRU : ∀ a j, wR a j → wU a j := fun _ _ h => Or.inr (Or.inr (Or.inl h))
    have hUi : ci = false → (v11, v13) = U i := fun e => by rw [e11, e13, hU]; exact (v4 e).1
    have hWi : ci = false → (sL s16 175 18, sL s16 175 19) = W i := fun e => (v16 e).trans (hW i hi)
    have pU : 0 < (U i).2.toInt := by rw [hU]; exact uR_pos hs z2
    have pW : 0 < (W i).2.toInt := by rw [← hW i hi]; exact (low_pos hD).1
    refine s_X4_times (x := (sL s16 175 18, sL s16 175 19)) (y := (v11, v13)) c16 (fun e => by rw [hWi e]; exact pW) (fun e => by rw [hUi e]; exact pU) (fun s24 ⟨F24, c24, v24⟩ => ?_)
    have hx1 : ci = false → mxO W U i = some (x1, x3) := fun e => (v e).1
    have pX : ci = false → 0 < x3.toInt := fun e => mxO_p i (x1, x3) (fun k hk => ⟨by rw [← hW k (by omega)]; exact (low_pos hD).1, by rw [hU]; exact uR_pos hs (hv k (by omega)).2⟩) (hx1 e)
    have hT : ∀ o, (ci || (timesR (sL s16 175 18, sL s16 175 19) (v11, v13)).isNone) = o → o = false → ∃ t, timesR (W i) (U i) = some t ∧ (sL s24 175 18, sL s24 175 19) = t := fun o ho e => by
      rw [e, Bool.or_eq_false_iff] at ho
      obtain ⟨ho1, ho2⟩ := ho
      rw [hWi ho1, hUi ho1] at ho2 v24
      cases ht : timesR (W i) (U i) with
      | none => rw [ht] at ho2; cases ho2
      | some t => exact ⟨t, rfl, v24 ho1 t ht⟩
    refine s_X4_add (x := (x1, x3)) (y := (sL s24 175 18, sL s24 175 19)) c24 (fun e => pX (Bool.or_eq_false_iff.mp e).1) (fun e => by obtain ⟨t, t1, t2⟩ := hT _ rfl e; rw [t2]; exact timesR_p pW pU t1) (fun s32 ⟨F32, c32, v32⟩ => ?_)
    intro v39 e39 v41 e41
    have FF : Fr wU 0 0 s4 s32 := Fr_tr (x := 0) (y := 0) (Fr_mo F16 wRU (Nat.le_refl _) (Nat.le_refl _)) (Fr_tr (x := 0) (y := 0) (Fr_mo F24 wRU (Nat.le_refl _) (Nat.le_refl _)) (Fr_mo F32 wRU (Nat.le_refl _) (Nat.le_refl _)))
    have FR : Fr wR 0 0 s4 s32 := Fr_tr (x := 0) (y := 0) F16 (Fr_tr (x := 0) (y := 0) F24 F32)
    have hk := k9 (s32, v39, v41, Int32.ofNat i + 1)
    dsimp only at hk
    -- the new sum
    have hmark : (c || (mxO W U (i + 1)).isNone) = ((ci || (timesR (sL s16 175 18, sL s16 175 19) (v11, v13)).isNone) || (addR (x1, x3) (sL s24 175 18, sL s24 175 19)).isNone) := by
      rw [mxO]
      cases hcc : ci with
      | true =>
        rw [hcc] at hci
        rw [Bool.true_or, Bool.true_or]
        cases c with
        | true => rfl
        | false =>
          rw [Bool.false_or] at hci ⊢
          cases hm9 : mxO W U i with
          | none => rfl
          | some a => rw [hm9] at hci; cases hci
      | false =>
        have c0 : c = false := by rw [hcc] at hci; exact (Bool.or_eq_false_iff.mp hci).1
        rw [hx1 hcc, bd_s, hWi hcc, hUi hcc, c0, Bool.false_or, Bool.false_or]
        cases ht : timesR (W i) (U i) with
        | none => rfl
        | some t =>
          obtain ⟨t', t1, t2⟩ := hT false (by rw [hcc, hWi hcc, hUi hcc, ht]; rfl) rfl
          rw [ht] at t1
          cases t1
          rw [bd_s, t2]; rfl
    have hval : (c || (mxO W U (i + 1)).isNone) = false → mxO W U (i + 1) = some (v39, v41) := fun e => by
      have e' := e
      rw [hmark] at e'
      obtain ⟨a1, a2⟩ := Bool.or_eq_false_iff.mp e'
      obtain ⟨b1, b2⟩ := Bool.or_eq_false_iff.mp a1
      obtain ⟨t, t1, t2⟩ := hT false a1 rfl
      have v9 := v32 a1
      rw [t2] at v9 a2
      rw [mxO, hx1 b1, bd_s, t1, bd_s]
      cases hr : addR (x1, x3) t with
      | none => rw [hr] at a2; cases a2
      | some r => rw [e39, e41, ← v9 r hr]
    refine hk ⟨succ_of i, Fr_tr (x := 0) (y := 0) Fs4 FF, by rw [hmark]; exact c32, fun e => ⟨hval e, fun p hp => ?_⟩, Or.inr (by rw [e39, e41])⟩
    have e' := e
    rw [hmark] at e'
    have b1 := (Bool.or_eq_false_iff.mp (Bool.or_eq_false_iff.mp e').1).1
    have old : ∀ a, 194 ≤ a → a ≤ 196 → Same s4 s32 a p := fun a h1 h2 => fr_at FR (Or.inl (by have := Fs4.1; omega)) (by unfold wR; omega)
    rw [(old 196 (by omega) (by omega)).1, (old 194 (by omega) (by omega)).2.1, (old 195 (by omega) (by omega)).2.1]
    exact (v4 b1).2 p hp
  · obtain ⟨s, x1, x3, x⟩ := a
    obtain ⟨e, F, cs, v, w⟩ := hA
    dsimp only at e F cs v w
    subst e
    show w_X4_mixes_l7 Φ _ (m + 1) s _ _ _
    have z36 : sI s 175 36 = Int32.ofNat n := (fr_at F (Or.inl (by omega)) (fun h => by have := nU2 _ _ h; omega)).1.trans h36
    rw [w_X4_mixes_l7, z36]
    refine ⟨fun _ => ?_, fun h => absurd (Int32.le_refl _) h⟩
    unfold w_X4_mixes_b100
    refine h s F cs (fun e v9 hv9 => ?_) (fun e => (v e).2)
    have e9 : (c || (mxO W U n).isNone) = false := by rw [e, hv9]; rfl
    have h9 := (v e9).1
    rw [hv9] at h9
    cases h9
    exact w.resolve_left (by omega)
