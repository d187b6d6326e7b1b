/-! PLAIN LAW, 56: the best mixture so far: the reference -/
set_option maxRecDepth 100000
/-- the reference's record of the best -/
def MB (st : St) (K G M N p : Nat) (f : Nat → Nat → Nat → Int32) : Option (Option Bst) → Prop
  | none => sI st 175 20 = 1
  | some o => sI st 175 20 = 0 ∧ Mm st K G M N f ∧ match o with
    | none => sI st 175 41 = 0
    | some b => 1 ≤ b.1 ∧ b.1 ≤ K ∧ sI st 175 41 = Int32.ofNat b.1 ∧ (sL st 175 43, sL st 175 44) = b.2.2 ∧ 0 < b.2.2.2.toInt ∧ 0 < (sL st 175 42).toInt ∧ ∀ k, k < b.1 → sI st 199 k = Int32.ofNat (gT b.2.1 k) ∧ lowR (sL st 200 k) (sL st 175 42) = wLo K G p b.1 (gT b.2.1) k
def wKe (a j : Nat) : Prop := (a = 175 ∧ 41 ≤ j ∧ j ≤ 44) ∨ ((a = 199 ∨ a = 200) ∧ j < 3)
def wHm (a j : Nat) : Prop := wU a j ∨ wWm a j ∨ wKe a j ∨ (a = 197 ∧ j < 3) ∨ (a = 175 ∧ j = 36)
theorem wU_c {a j : Nat} (h : wU a j) : (a = 175 ∧ j ≤ 30 ∧ 18 ≤ j) ∨ (188 ≤ a ∧ a ≤ 196) := by unfold wU wTm wKy wKm wR at h; omega
theorem wHm_c {a j : Nat} (h : wHm a j) : (a = 175 ∧ 18 ≤ j) ∨ (188 ≤ a ∧ a ≤ 200) := by
  unfold wHm wWm wKe at h
  rcases h with h | h
  · have := wU_c h; omega
  · omega
def Xm (st0 st : St) (K G M N : Nat) (f : Nat → Nat → Nat → Int32) : Prop := Fr wHm 0 0 st0 st ∧ Hs st K G M N ∧ gmF st = f
theorem Xm_st {st0 st s : St} {K G M N : Nat} {f : Nat → Nat → Nat → Int32} {W : Nat → Nat → Prop} (hN : 201 ≤ sN st0) (h : Xm st0 st K G M N f) (hF : Fr W 0 0 st s) (hW : ∀ a j, W a j → wHm a j) : Xm st0 s K G M N f := by
  obtain ⟨F, hs, h1⟩ := h
  have hNs : 201 ≤ sN st := Nat.le_trans hN F.1
  have FF : Fr wHm 0 0 st s := Fr_mo hF hW (Nat.le_refl _) (Nat.le_refl _)
  exact ⟨Fr_tr (x := 0) (y := 0) F FF, (Hs_q FF hNs (fun a j h hw => by have := wHm_c hw; omega) hs).1, (gm_eq FF hNs (fun j hw => by have := wHm_c hw; omega)).trans h1⟩
theorem MB_st {st s : St} {K G M N p : Nat} {f : Nat → Nat → Nat → Int32} {W : Nat → Nat → Prop} {a : Option (Option Bst)} (hp15 : ptN K G ≤ 15) (hK : K ≤ 3) (hN : 201 ≤ sN st) (hF : Fr W 0 0 st s) (hW : ∀ a j, W a j → (a = 175 ∧ (j = 38 ∨ j = 36 ∨ j = 18 ∨ j = 19)) ∨ a = 198 ∨ a = 197) (h : MB st K G M N p f a) : MB s K G M N p f a := by
  have si : ∀ a j, a < 201 → ¬ ((a = 175 ∧ (j = 38 ∨ j = 36 ∨ j = 18 ∨ j = 19)) ∨ a = 198 ∨ a = 197) → Same st s a j := fun a j h1 h2 => fr_at hF (Or.inl (by omega)) (fun h => h2 (hW a j h))
  cases a with
  | none => exact (si 175 20 (by omega) (by omega)).1.trans h
  | some o =>
    obtain ⟨h1, h2, h3⟩ := h
    refine ⟨(si 175 20 (by omega) (by omega)).1.trans h1, fun q hq => ?_, ?_⟩
    · rw [(si 196 q (by omega) (by omega)).1, (si 194 q (by omega) (by omega)).2.1, (si 195 q (by omega) (by omega)).2.1]; exact h2 q hq
    · cases o with
      | none => exact (si 175 41 (by omega) (by omega)).1.trans h3
      | some b =>
        obtain ⟨g1, g2, g3, g4, g5, g6, g7⟩ := h3
        refine ⟨g1, g2, (si 175 41 (by omega) (by omega)).1.trans g3, ?_, g5, ?_, fun k hk => ?_⟩
        · rw [(si 175 43 (by omega) (by omega)).2.1, (si 175 44 (by omega) (by omega)).2.1]; exact g4
        · rw [(si 175 42 (by omega) (by omega)).2.1]; exact g6
        · obtain ⟨g8, g9⟩ := g7 k hk
          rw [(si 199 k (by omega) (by omega)).1, (si 200 k (by omega) (by omega)).2.1, (si 175 42 (by omega) (by omega)).2.1]
          exact ⟨g8, g9⟩
/-- the reference keeps what is best -/
theorem m_keeps {st : St} {K G M N p n : Nat} {f : Nat → Nat → Nat → Int32} {s : Nat × Nat × Nat} {v : Int64 × Int64} {Φ : St → Prop} (hN : 201 ≤ sN st) (hp15 : ptN K G ≤ 15) (hn : 1 ≤ n ∧ n ≤ K) (hK : K ≤ 3) (h20 : sI st 175 20 = 0) (hm : Mm st K G M N f) (h36 : sI st 175 36 = Int32.ofNat n) (hv : ∀ k, k < n → sI st 197 k = Int32.ofNat (gT s k)) (hp : 0 < v.2.toInt) (hD : 0 < (sL st 175 38).toInt) (hW : ∀ k, k < n → lowR (sL st 198 k) (sL st 175 38) = wLo K G p n (gT s) k) (h : ∀ s', Fr wKe 0 0 st s' → MB s' K G M N p f (some (some (n, s, v))) → Φ s') : w_X4_tries_b92 Φ st v.1 v.2 := by
  unfold w_X4_tries_b92
  intro s1 e1 s2 e2 s3 e3 s4 e4
  have F4 : Fr (fun a j => a = 175 ∧ 41 ≤ j ∧ j ≤ 44) 0 0 st s4 := by
    rw [e4, e3, e2, e1]
    exact Fr_L (Fr_I (Fr_L (Fr_L Fr_rf (Or.inl (by omega))) (Or.inl (by omega))) (Or.inl (by omega))) (Or.inl (by omega))
  have i36 : sI s2 175 36 = Int32.ofNat n := by rw [e2, gI_pL, e1, gI_pL]; exact h36
  have l38 : sL s3 175 38 = sL st 175 38 := by rw [e3, gL_pI, e2, gL_pL, if_neg (by omega), e1, gL_pL, if_neg (by omega)]
  have v41 : sI s4 175 41 = Int32.ofNat n := by rw [e4, gI_pL, e3, gI_pI, if_pos ⟨rfl, rfl⟩, i36]
  have v43 : sL s4 175 43 = v.1 := by rw [e4, gL_pL, if_neg (by omega), e3, gL_pI, e2, gL_pL, if_neg (by omega), e1, gL_pL, if_pos ⟨rfl, rfl⟩]
  have v44 : sL s4 175 44 = v.2 := by rw [e4, gL_pL, if_neg (by omega), e3, gL_pI, e2, gL_pL, if_pos ⟨rfl, rfl⟩]
  have v42 : sL s4 175 42 = sL st 175 38 := by rw [e4, gL_pL, if_pos ⟨rfl, rfl⟩, l38]
  clear e1 e2 e3 e4 i36 l38
  have hN4 : 201 ≤ sN s4 := Nat.le_trans hN F4.1
  refine loop_up (α := St × Int32) (L := fun m a => w_X4_tries_l122 Φ (fun (s49 : St) => w_X4_tries_b162 Φ s49) m a.1 a.2) 3 (fun i a => a.2 = Int32.ofNat i ∧ Fr (fun a j => (a = 199 ∨ a = 200) ∧ j < 3) 0 0 s4 a.1 ∧ ∀ k, k < i → sI a.1 199 k = sI st 197 k ∧ sL a.1 200 k = sL st 198 k) (fun m i a hi hA k9 => ?_) (fun m a hA => ?_) gFU 0 (s4, 0) (by omega) (gFU_big (by omega)) ⟨rfl, Fr_rf, fun k hk => absurd hk (by omega)⟩
  · obtain ⟨s5, x⟩ := a
    obtain ⟨e, F, w⟩ := hA
    dsimp only at e F w
    subst e
    show w_X4_tries_l122 Φ _ (m + 1) s5 _
    have e3 : ((3 : Int32) ≤ Int32.ofNat i) = (3 ≤ i) := le_of (m := 3) (by omega) (by omega)
    have FF : Fr (fun a j => (a = 175 ∧ 41 ≤ j ∧ j ≤ 44) ∨ ((a = 199 ∨ a = 200) ∧ j < 3)) 0 0 st s5 := Fr_tr (x := 0) (y := 0) (Fr_mo F4 (fun _ _ h => Or.inl h) (Nat.le_refl _) (Nat.le_refl _)) (Fr_mo F (fun _ _ h => Or.inr h) (Nat.le_refl _) (Nat.le_refl _))
    have y197 : sI s5 197 i = sI st 197 i := (fr_at FF (Or.inl (by omega)) (by omega)).1
    have y198 : sL s5 198 i = sL st 198 i := (fr_at FF (Or.inl (by omega)) (by omega)).2.1
    rw [w_X4_tries_l122, e3, vp_of (by omega), nn_of (by omega)]
    refine ⟨fun h => absurd h (by omega), fun _ => ⟨by omega, ?_⟩⟩
    intro s6 e6 s7 e7
    have hk := k9 (s7, Int32.ofNat i + 1)
    dsimp only at hk
    have l6 : sL s6 198 i = sL st 198 i := by rw [e6, gL_pI]; exact y198
    refine hk ⟨succ_of i, ?_, fun k hk => ?_⟩
    · rw [e7, e6]
      exact Fr_L (Fr_I F (Or.inl (by omega))) (Or.inl (by omega))
    · have i7 : sI s7 199 k = if k = i then sI st 197 i else sI s5 199 k := by
        rw [e7, gI_pL, e6, gI_pI]
        by_cases e : k = i
        · rw [if_pos ⟨rfl, e⟩, if_pos e, y197]
        · rw [if_neg (fun h => e h.2), if_neg e]
      have l7 : sL s7 200 k = if k = i then sL st 198 i else sL s5 200 k := by
        rw [e7, gL_pL]
        by_cases e : k = i
        · rw [if_pos ⟨rfl, e⟩, if_pos e, l6]
        · rw [if_neg (fun h => e h.2), if_neg e, e6, gL_pI]
      rw [i7, l7]
      by_cases e : k = i
      · rw [if_pos e, if_pos e, e]; exact ⟨rfl, rfl⟩
      · rw [if_neg e, if_neg e]; exact w k (by omega)
  · obtain ⟨s5, x⟩ := a
    obtain ⟨e, F, w⟩ := hA
    dsimp only at e F w
    subst e
    show w_X4_tries_l122 Φ _ (m + 1) s5 _
    rw [w_X4_tries_l122]
    refine ⟨fun _ => ?_, fun h => absurd (Int32.le_refl _) h⟩
    unfold w_X4_tries_b162
    have FF : Fr (fun a j => (a = 175 ∧ 41 ≤ j ∧ j ≤ 44) ∨ ((a = 199 ∨ a = 200) ∧ j < 3)) 0 0 st s5 := Fr_tr (x := 0) (y := 0) (Fr_mo F4 (fun _ _ h => Or.inl h) (Nat.le_refl _) (Nat.le_refl _)) (Fr_mo F (fun _ _ h => Or.inr h) (Nat.le_refl _) (Nat.le_refl _))
    have o5 : ∀ a j, a < 201 → ¬ ((a = 175 ∧ 41 ≤ j ∧ j ≤ 44) ∨ ((a = 199 ∨ a = 200) ∧ j < 3)) → Same st s5 a j := fun a j h1 h2 => fr_at FF (Or.inl (by omega)) h2
    have o4 : ∀ j, Same s4 s5 175 j := fun j => fr_at F (Or.inl (by omega)) (by omega)
    refine h s5 FF ⟨(o5 175 20 (by omega) (by omega)).1.trans h20, fun q hq => ?_, hn.1, hn.2, ?_, ?_, hp, ?_, fun k hk => ?_⟩
    · rw [(o5 196 q (by omega) (by omega)).1, (o5 194 q (by omega) (by omega)).2.1, (o5 195 q (by omega) (by omega)).2.1]; exact hm q hq
    · rw [(o4 41).1]; exact v41
    · rw [(o4 43).2.1, (o4 44).2.1, v43, v44]
    · rw [(o4 42).2.1, v42]; exact hD
    · have hk' : k < n := hk
      obtain ⟨w1, w2⟩ := w k (by omega)
      rw [w1, w2, (o4 42).2.1, v42]
      exact ⟨hv k hk', hW k hk'⟩
/-- the reference tries a set -/
theorem m_tries {st0 st : St} {K G M N p n : Nat} {f : Nat → Nat → Nat → Int32} {s : Nat × Nat × Nat} {a : Option (Option Bst)} {Φ : St → Prop} (hN : 201 ≤ sN st0) (hX : Xm st0 st K G M N f) (hp : p < ptN K G) (hV : Val (ptN K G) n s) (hnK : n ≤ K) (hB : MB st K G M N p f a) (h36 : sI st 175 36 = Int32.ofNat n) (hv : ∀ k, k < n → sI st 197 k = Int32.ofNat (gT s k)) (h1 : ∀ s', Xm st0 s' K G M N f → MB s' K G M N p f (tryF K G M N p f n s a) → sI s' 175 36 = Int32.ofNat n → Φ s') : w_X4_tries st (Int32.ofNat p) Φ := by
  obtain ⟨n1, n3, g1, g2⟩ := gT_lt hV
  have hs := hX.2.1
  have q1 := hs.1
  have q2 := hs.2.1
  have hp15 := pt15 q1 q2
  have hNs : 201 ≤ sN st := Nat.le_trans hN hX.1.1
  unfold w_X4_tries
  cases ha : a with
  | none =>
    rw [ha] at hB
    have hB' : sI st 175 20 = 1 := hB
    rw [hB']
    refine ⟨fun _ => h1 st hX (by rw [ha]; exact hB) h36, fun h => absurd h (by decide)⟩
  | some o =>
  rw [ha] at hB h1
  obtain ⟨c0, hm, hB'⟩ := hB
  rw [c0]
  refine ⟨fun h => absurd rfl h, fun _ => ?_⟩
  have keep36 : ∀ {W : Nat → Nat → Prop} {s1 s2 : St}, Fr W 0 0 s1 s2 → 201 ≤ sN s1 → ¬ W 175 36 → sI s1 175 36 = Int32.ofNat n → sI s2 175 36 = Int32.ofNat n := fun F hn hw h => (fr_at F (Or.inl (by omega)) hw).1.trans h
  have mbw : ∀ a j, wWm a j → (a = 175 ∧ (j = 38 ∨ j = 36 ∨ j = 18 ∨ j = 19)) ∨ a = 198 ∨ a = 197 := fun a j h => by unfold wWm at h; omega
  have same : ∀ s3, Fr wWm 0 0 st s3 → spB K G p n (gT s) = false → Φ s3 := fun s3 F3 hsp => by
    refine h1 s3 (Xm_st hN hX F3 (fun a j h => Or.inr (Or.inl h))) ?_ (keep36 F3 hNs (by unfold wWm; omega) h36)
    rw [try_f hsp]
    exact MB_st hp15.1 (by omega) hNs F3 mbw ⟨c0, hm, hB'⟩
  have hf : ¬ (wOk K G p n (gT s) ∧ ∀ i, i < n → 0 < wUp K G p n (gT s) i) → spB K G p n (gT s) = false := fun h => by
    cases hc : spB K G p n (gT s) with
    | false => rfl
    | true => exact absurd (spB_t.mp hc) h
  refine m_weighs hs hp ⟨n1, n3⟩ g1 g2 h36 hv (fun hok s3 F3 d3 w3 => ⟨fun h => absurd h (by decide), fun _ => ?_⟩) (fun hok s3 F3 => ⟨fun _ => same s3 F3 (hf (fun h => hok h.1)), fun h => absurd rfl h⟩)
  obtain ⟨hDp, hw2⟩ := wB q1 q2 ⟨n1, n3⟩ hp g1 g2 hok
  have hN3 : 201 ≤ sN s3 := Nat.le_trans hNs F3.1
  have h36' := keep36 F3 hNs (by unfold wWm; omega) h36
  refine m_above (t := 1) (u := wUp K G p n (gT s)) n3 (by unfold fit; omega) h36' (fun i hi => by rw [w3 i hi]; exact (hw2 i hi).1) ?_
  rw [ib_nz, ib_z]
  refine ⟨fun hc => ?_, fun hc => same s3 F3 (hf (fun h => (of_decide_eq_false hc) (fun i hi => by have := h.2 i hi; omega)))⟩
  have hsp : spB K G p n (gT s) = true := spB_t.mpr ⟨hok, fun i hi => by have := (of_decide_eq_true hc) i hi; omega⟩
  have hX3 := Xm_st hN hX F3 (fun a j h => Or.inr (Or.inl h))
  obtain ⟨c3, hm3, hB3⟩ := (MB_st hp15.1 (by omega) hNs F3 mbw ⟨c0, hm, hB'⟩ : MB s3 K G M N p f (some o))
  have v3 : ∀ k, k < n → sI s3 197 k = Int32.ofNat (gT s k) := fun k hk => (fr_at F3 (Or.inl (by omega)) (by unfold wWm; omega)).1.trans (hv k hk)
  refine m_mixes (S := gT s) (W := wLo K G p n (gT s)) (c := false) hN3 hX3.2.1 ⟨n1, n3⟩ h36' (fun i hi => ⟨v3 i hi, g1 i hi⟩) c3 (fun _ => by rw [hX3.2.2]; exact hm3) (by rw [d3]; exact hDp) (fun i hi => by rw [w3 i hi, d3]; rfl) (fun s21 F21 c21 l21 m21 => ?_)
  rw [hX3.2.2] at c21 l21 m21
  have em : mxO (wLo K G p n (gT s)) (fun i => uR K G M N (gT s i) f) n = mixF K G M N p f n s := rfl
  rw [em] at c21 l21 m21
  rw [Bool.false_or] at c21 m21
  have hX21 := Xm_st hN hX3 F21 (fun a j h => Or.inl h)
  have hN21 : 201 ≤ sN s21 := Nat.le_trans hN3 F21.1
  have o21 : ∀ a j, a < 201 → ¬ ((a = 175 ∧ j ≤ 30 ∧ 18 ≤ j) ∨ (188 ≤ a ∧ a ≤ 196)) → Same s3 s21 a j := fun a j h1 h2 => fr_at F21 (Or.inl (by omega)) (fun h => h2 (wU_c h))
  have h36'' : sI s21 175 36 = Int32.ofNat n := (o21 175 36 (by omega) (by omega)).1.trans h36'
  have tr : ∀ o', (mixF K G M N p f n s).bind (fun v => pickF n s v o) = o' → tryF K G M N p f n s (some o) = o' := fun o' h => (try_b hsp).trans h
  -- marked
  have big : ∀ s2, Xm st0 s2 K G M N f → sI s2 175 20 = 1 → sI s2 175 36 = Int32.ofNat n → tryF K G M N p f n s (some o) = none → ∀ v w, w_X4_tries_b68 Φ s2 v w := fun s2 x2 e2 z2 ht v w => by
    unfold w_X4_tries_b68
    rw [e2]
    exact ⟨fun _ => h1 s2 x2 (by rw [ht]; exact e2) z2, fun h => absurd h (by decide)⟩
  -- what is kept
  have keep : ∀ v s2, Xm st0 s2 K G M N f → Fr wR 0 0 s21 s2 → sI s2 175 20 = 0 → Mm s2 K G M N f → 0 < v.2.toInt → tryF K G M N p f n s (some o) = some (some (n, s, v)) → w_X4_tries_b92 Φ s2 v.1 v.2 := fun v s2 x2 F2 e2 hm2 pv ht => by
    have hN2 : 201 ≤ sN s2 := Nat.le_trans hN21 F2.1
    have o2 : ∀ a j, a < 201 → ¬ ((a = 175 ∧ j ≤ 30 ∧ 18 ≤ j) ∨ (188 ≤ a ∧ a ≤ 196)) → Same s3 s2 a j := fun a j g1 g2 => fr_at (Fr_tr (x := 0) (y := 0) F21 (Fr_mo F2 (fun _ _ h => Or.inr (Or.inr (Or.inl h))) (Nat.le_refl _) (Nat.le_refl _))) (Or.inl (by omega)) (fun h => g2 (wU_c h))
    refine m_keeps hN2 hp15.1 ⟨n1, hnK⟩ (by omega) e2 hm2 ((o2 175 36 (by omega) (by omega)).1.trans h36') (fun k hk => (o2 197 k (by omega) (by omega)).1.trans (v3 k hk)) pv (by rw [(o2 175 38 (by omega) (by omega)).2.1, d3]; exact hDp) (fun k hk => by rw [(o2 198 k (by omega) (by omega)).2.1, (o2 175 38 (by omega) (by omega)).2.1, w3 k hk, d3]; rfl) (fun s' F' hB9 => ?_)
    refine h1 s' (Xm_st hN x2 F' (fun _ _ h => Or.inr (Or.inr (Or.inl h)))) (by rw [ht]; exact hB9) ?_
    exact (fr_at F' (Or.inl (by omega)) (by unfold wKe; omega)).1.trans ((o2 175 36 (by omega) (by omega)).1.trans h36')
  intro v28 e28 v30 e30
  cases hmx : mixF K G M N p f n s with
  | none =>
    rw [hmx] at c21 tr
    have c21' : sI s21 175 20 = 1 := c21
    have ht := tr none rfl
    rw [c21']
    exact ⟨fun _ => big s21 hX21 c21' h36'' ht _ _, fun _ => ⟨fun _ => big s21 hX21 c21' h36'' ht _ _, fun h => absurd h (by decide)⟩⟩
  | some v =>
    rw [hmx] at c21 tr m21
    have c21' : sI s21 175 20 = 0 := c21
    have hm21 := m21 rfl
    have l9 := l21 rfl v hmx
    have pv : 0 < v.2.toInt := mxO_p n v (fun i hi => ⟨(hw2 i hi).2.1, by rw [← hX3.2.2]; exact uR_pos hX3.2.1 (g1 i hi)⟩) (em.trans hmx)
    have ev1 : v28 = v.1 := by rw [e28, ← l9]
    have ev2 : v30 = v.2 := by rw [e30, ← l9]
    rw [ev1, ev2]
    clear e28 e30 ev1 ev2
    rw [c21']
    have y41 : sI s21 175 41 = sI s3 175 41 := (o21 175 41 (by omega) (by omega)).1
    cases ho : o with
    | none =>
      rw [ho] at hB3 tr
      have ht := tr (some (some (n, s, v))) rfl
      rw [← ho] at ht
      have z41 : sI s21 175 41 = 0 := y41.trans hB3
      rw [z41]
      refine ⟨fun _ => ?_, fun h => absurd (Int32.le_refl _) h⟩
      unfold w_X4_tries_b68
      rw [c21', z41]
      exact ⟨fun h => absurd rfl h, fun _ => ⟨fun _ => keep v s21 hX21 Fr_rf c21' hm21 pv ht, fun h => absurd (Int32.le_refl _) h⟩⟩
    | some b =>
      rw [ho] at hB3 tr
      obtain ⟨b1, b2, b3, b4, b5, b6, b7⟩ := hB3
      have z41 : sI s21 175 41 = Int32.ofNat b.1 := y41.trans b3
      have le0 : (Int32.ofNat b.1 ≤ (0 : Int32)) = (b.1 ≤ 0) := le_of (n := 0) (by omega) (by omega)
      rw [z41, le0]
      refine ⟨fun h => absurd h (by omega), fun _ => ⟨fun h => absurd rfl h, fun _ => ?_⟩⟩
      have z43 : (sL s21 175 43, sL s21 175 44) = b.2.2 := by rw [(o21 175 43 (by omega) (by omega)).2.1, (o21 175 44 (by omega) (by omega)).2.1]; exact b4
      have z43a : sL s21 175 43 = b.2.2.1 := by rw [← z43]
      have z44a : sL s21 175 44 = b.2.2.2 := by rw [← z43]
      rw [z43a, z44a]
      refine s_X4_less (c := false) (x := v) (y := b.2.2) c21' (fun _ => pv) (fun _ => b5) (fun s53 ⟨F53, c53, l53⟩ => ?_)
      have hX53 := Xm_st hN hX21 F53 (fun a j h => Or.inl (Or.inr (Or.inr (Or.inl h))))
      have w41 : sI s53 175 41 = Int32.ofNat b.1 := (fr_at F53 (Or.inl (by omega)) (by unfold wR; omega)).1.trans z41
      have w36 : sI s53 175 36 = Int32.ofNat n := (fr_at F53 (Or.inl (by omega)) (by unfold wR; omega)).1.trans h36''
      rw [Bool.false_or] at c53
      cases hl : lessR v b.2.2 with
      | none =>
        rw [hl] at c53
        refine big s53 hX53 c53 w36 ?_ _ _
        have := tr none (pick_n hl)
        rw [← ho] at this; exact this
      | some d =>
        rw [hl] at c53
        have c53' : sI s53 175 20 = 0 := c53
        have d53 := l53 rfl d hl
        have d1 : sL s53 175 18 = d.1 := by rw [← d53]
        have hm53 : Mm s53 K G M N f := fun q hq => by
          have old : ∀ a, 194 ≤ a → a ≤ 196 → Same s21 s53 a q := fun a h1 h2 => fr_at F53 (Or.inl (by omega)) (by unfold wR; omega)
          rw [(old 196 (by omega) (by omega)).1, (old 194 (by omega) (by omega)).2.1, (old 195 (by omega) (by omega)).2.1]; exact hm21 q hq
        unfold w_X4_tries_b68
        rw [c53', w41, le0, d1, lt64]
        have z0 : ((0 : Int64).toInt < d.1.toInt) = (0 < d.1.toInt) := rfl
        rw [z0]
        refine ⟨fun h => absurd rfl h, fun _ => ⟨fun h => absurd h (by omega), fun _ => ⟨fun h => ?_, fun h => ?_⟩⟩⟩
        · have ht := tr (some (some (n, s, v))) (pick_t hl h)
          rw [← ho] at ht
          exact keep v s53 hX53 F53 c53' hm53 pv ht
        · have ht : tryF K G M N p f n s (some o) = some (some b) := by rw [ho]; exact tr (some (some b)) (pick_k hl h)
          refine h1 s53 hX53 ?_ w36
          rw [ht]
          have o53 : ∀ a j, a < 201 → ¬ ((a = 175 ∧ j ≤ 30 ∧ 18 ≤ j) ∨ (188 ≤ a ∧ a ≤ 196)) → Same s3 s53 a j := fun a j g1 g2 => fr_at (Fr_tr (x := 0) (y := 0) F21 (Fr_mo F53 (fun _ _ h => Or.inr (Or.inr (Or.inl h))) (Nat.le_refl _) (Nat.le_refl _))) (Or.inl (by omega)) (fun h => g2 (wU_c h))
          refine ⟨c53', hm53, b1, b2, w41, ?_, b5, ?_, fun k hk => ?_⟩
          · rw [(o53 175 43 (by omega) (by omega)).2.1, (o53 175 44 (by omega) (by omega)).2.1]; exact b4
          · rw [(o53 175 42 (by omega) (by omega)).2.1]; exact b6
          · obtain ⟨b8, b9⟩ := b7 k hk
            rw [(o53 199 k (by omega) (by omega)).1, (o53 200 k (by omega) (by omega)).2.1, (o53 175 42 (by omega) (by omega)).2.1]
            exact ⟨b8, b9⟩
