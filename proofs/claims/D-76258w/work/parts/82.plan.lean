/-! PLAIN LAW, 43: plan -/
set_option maxRecDepth 100000
def wtF (K : Nat → Nat) (W : Nat → Int64) (l : Nat) : Nat → Int64
  | 0 => 0
  | k + 1 => if K k = l then W k else wtF K W l k
theorem wtF_none {K : Nat → Nat} {W : Nat → Int64} {l : Nat} : ∀ n, (∀ k, k < n → K k ≠ l) → wtF K W l n = 0
  | 0, _ => rfl
  | n + 1, h => by rw [wtF, if_neg (h n (by omega))]; exact wtF_none n (fun k hk => h k (by omega))
theorem wtF_at {K : Nat → Nat} {W : Nat → Int64} {l k : Nat} (hk : K k = l) : ∀ n, k < n → (∀ j, k < j → j < n → K j ≠ l) → wtF K W l n = W k
  | 0, h, _ => absurd h (by omega)
  | n + 1, h, hj => by
    rw [wtF]
    by_cases e : k = n
    · subst e; rw [if_pos hk]
    · rw [if_neg (hj n (by omega) (by omega))]; exact wtF_at hk n (by omega) (fun j h1 h2 => hj j h1 (by omega))
theorem wt_eq {K : Nat → Nat} {W : Nat → Int64} {f : Nat → Int64} {l n : Nat} (ha : Asc n K) (h1 : ∀ k, k < n → f (K k) = W k) (h0 : (∀ k, k < n → K k ≠ l) → f l = 0) : f l = wtF K W l n := by
  by_cases e : ∃ k, k < n ∧ K k = l
  · obtain ⟨k, hk, hkl⟩ := e
    rw [wtF_at hkl n hk (fun j g1 g2 h => by have := asc_lt ha j k g1 g2; omega), ← hkl, h1 k hk]
  · have hn : ∀ k, k < n → K k ≠ l := fun k hk h => e ⟨k, hk, h⟩
    rw [wtF_none n hn, h0 hn]
theorem pe_X0_isLine {st : St} {p q : Int32} {Φ : Int32 → Prop} : w_X0_isLine st p q Φ = Φ (ib (if p = 0 then inB q.toInt64 0 ((sI st 2 2) - 1).toInt64 else inB q.toInt64 0 ((sI st 2 3) - 1).toInt64)) := by
  unfold w_X0_isLine
  simp only [pe_X1_isColumn, pe_X1_isRow, ib_01, true_and]
  by_cases e : p = 0
  · simp [e]
  · simp [e]
theorem e_plan {st : St} {p1 p2 p3 p4 : Int32} {Φ : St → Int64 → Prop} (h : w_X0_plan_b40 Φ st p1 p2 p3 p4 (ib (inB p1.toInt64 0 ((sI st 2 9) - 1).toInt64 && (inB p2.toInt64 0 1 && ((if p2 = 0 then inB p3.toInt64 0 ((sI st 2 2) - 1).toInt64 else inB p3.toInt64 0 ((sI st 2 3) - 1).toInt64) && inB p4.toInt64 0 1))))) : w_X0_plan st p1 p2 p3 p4 Φ := by
  unfold w_X0_plan w_X0_plan_b39
  simp only [pe_X1_isPoint, pe_X0_isPart, pe_X0_isLine, ib_z]
  revert h
  generalize (if p2 = 0 then inB p3.toInt64 0 ((sI st 2 2) - 1).toInt64 else inB p3.toInt64 0 ((sI st 2 3) - 1).toInt64) = z
  cases inB p1.toInt64 0 ((sI st 2 9) - 1).toInt64 <;> cases inB p2.toInt64 0 1 <;> cases z <;> cases inB p4.toInt64 0 1 <;> simp [ib]
theorem x_plan_l {st : St} {Φ : St → Int64 → Prop} {E : St → Int32 → Int64 → Prop} {n l : Nat} {p2 p4 : Int32} {K : Nat → Nat} {W : Nat → Int64} (hn : n ≤ 3) (hl : l < 100) (hK : ∀ k, k < n → sI st (if p2 = 0 then 129 else 130) k = Int32.ofNat (K k) ∧ K k < 100) (hW : ∀ k, k < n → sL st (if p2 = 0 then 131 else 132) k = W k) (h : E st p4 (wtF K W l n)) : w_X0_plan_l60 Φ E gFU st p2 (Int32.ofNat l) p4 (Int32.ofNat n) 0 0 := by
  refine loop_up (α := Int64 × Int32) (L := fun m a => w_X0_plan_l60 Φ E m st p2 (Int32.ofNat l) p4 (Int32.ofNat n) a.1 a.2) n (fun i a => a = (wtF K W l i, Int32.ofNat i)) (fun m i a hi hI k9 => ?_) (fun m a hI => ?_) gFU 0 (0, 0) (by omega) (gFU_big (by omega)) rfl
  · subst hI
    show w_X0_plan_l60 Φ E (m + 1) st _ _ _ _ _ _
    dsimp only
    obtain ⟨k1, k2⟩ := hK i hi
    have w1 := hW i hi
    have nxt : ∀ v, v = wtF K W l (i + 1) → w_X0_plan_l60 Φ E m st p2 (Int32.ofNat l) p4 (Int32.ofNat n) v (Int32.ofNat i + 1) := fun v hv => by
      have hk := k9 (v, Int32.ofNat i + 1)
      dsimp only at hk
      exact hk (by rw [hv, succ_of])
    rw [w_X0_plan_l60, le_of (by omega) (by omega)]
    refine ⟨fun h => absurd h (by omega), fun _ => ⟨fun hp => ?_, fun hp => ?_⟩⟩
    · rw [if_neg hp] at k1 w1
      unfold w_X0_plan_b82 w_X0_plan_b110 w_X0_plan_b112
      rw [vp_of (by omega), nn_of (by omega), k1, ne_eq, ofE (by omega) (by omega), w1]
      refine ⟨by omega, fun hne => nxt _ (by rw [wtF, if_neg hne]), fun he => ⟨fun _ => nxt _ (by rw [wtF, if_pos he]), fun h => absurd h hp⟩⟩
    · rw [if_pos hp] at k1 w1
      unfold w_X0_plan_b82 w_X0_plan_b110 w_X0_plan_b112
      rw [vp_of (by omega), nn_of (by omega), k1, ne_eq, ofE (by omega) (by omega), w1]
      refine ⟨by omega, fun hne => nxt _ (by rw [wtF, if_neg hne]), fun he => ⟨fun h => absurd hp h, fun _ => nxt _ (by rw [wtF, if_pos he])⟩⟩
  · subst hI
    show w_X0_plan_l60 Φ E (m + 1) st _ _ _ _ _ _
    dsimp only
    rw [w_X0_plan_l60]
    exact ⟨fun _ => h, fun h => absurd (Int32.le_refl _) h⟩
theorem o_plan {b : Nat} {st : St} {p1 p2 p3 p4 : Int32} {K E : St → Prop} (hI : Inv (b + 1) st) (hK : ∀ s, Inv b s → K s) : w_X0_plan st p1 p2 p3 p4 (fun s r => w_X4_plan s p1 p2 p3 p4 (fun s' r' => (r = r' → K s') ∧ (¬ r = r' → E s'))) := by
  obtain ⟨hN, hc1, hc2⟩ := Rm1 hI
  obtain ⟨K', G, M, N, hs⟩ := Hs_of hI
  have hh := hs
  obtain ⟨q1, q2, q3, q4, q5, q6, q7, q8, q9, q10, q11, q12, q13, q14, q15, q16⟩ := hh
  have hp15 := pt15 q1 q2
  refine e_plan ?_
  rw [q13, q11, q12, sub1_64 (by omega) (by omega), sub1_64 (by omega) (by omega), sub1_64 (by omega) (by omega)]
  unfold w_X0_plan_b40
  -- the reference's tests
  have hmt : ∀ s, (∀ j, j < 96 → sI s 177 j = sI st 177 j) → ∀ Φ : St → Int64 → Prop, (inB p1.toInt64 0 (Int64.ofInt ((ptN K' G - 1 : Nat) : Int)) && (inB p2.toInt64 0 1 && ((if p2 = 0 then inB p3.toInt64 0 (Int64.ofInt ((M - 1 : Nat) : Int)) else inB p3.toInt64 0 (Int64.ofInt ((N - 1 : Nat) : Int))) && inB p4.toInt64 0 1))) = false → w_X4_findsFar s 1 Φ → w_X4_plan s p1 p2 p3 p4 Φ := fun s hz Φ hc h => by
    have go : ∀ z0 : Nat, (z0 = M ∨ z0 = N) → inB p2.toInt64 0 1 = true → inB p1.toInt64 0 (Int64.ofInt ((ptN K' G - 1 : Nat) : Int)) = true → (inB p3.toInt64 0 (Int64.ofInt ((z0 - 1 : Nat) : Int)) && inB p4.toInt64 0 1) = false → w_X4_plan_b37 Φ s p1 p2 p3 p4 (Int32.ofNat z0) 0 p3.toInt64 := fun z0 hz0 _ _ hcc => by
      unfold w_X4_plan_b37 w_X4_plan_b54
      rw [pe_X4_isIn, sub1_64 (by omega) (by omega), ib_z]
      refine ⟨fun _ => h, fun g1 => ?_⟩
      rw [pe_X4_isPart, ib_nz, ib_z]
      refine ⟨fun g2 => ?_, fun _ => h⟩
      rcases b_or hcc with c | c
      · exact absurd c g1
      · rw [c] at g2; cases g2
    unfold w_X4_plan w_X4_plan_b54
    rw [pe_X4_isPoint ((hz 0 (by omega)).trans q5) ((hz 1 (by omega)).trans q6) q1 q2, ib_z]
    refine ⟨fun _ => h, fun g1 => ?_⟩
    have t1 : inB p1.toInt64 0 (Int64.ofInt ((ptN K' G - 1 : Nat) : Int)) = true := by
      cases hq : inB p1.toInt64 0 (Int64.ofInt ((ptN K' G - 1 : Nat) : Int))
      · exact absurd hq g1
      · rfl
    rw [t1, Bool.true_and] at hc
    rw [pe_X4_isPart, ib_z]
    refine ⟨fun _ => h, fun g2 => ?_⟩
    have t2 : inB p2.toInt64 0 1 = true := by
      cases hq : inB p2.toInt64 0 1
      · exact absurd hq g2
      · rfl
    rw [t2, Bool.true_and] at hc
    rw [hz 3 (by omega), hz 2 (by omega), q7, q8]
    refine ⟨fun hp => go N (Or.inr rfl) t2 t1 (by rw [if_neg hp] at hc; exact hc), fun hp => go M (Or.inl rfl) t2 t1 (by rw [if_pos hp] at hc; exact hc)⟩
  refine needL (M := fun s Ψ => w_X4_plan s p1 p2 p3 p4 Ψ) hI hK (by decide) (fun hc => ?_) (fun hc s2 f2 Φ h => hmt s2 (fun j hj => (q_at f2 hN (by omega) (nQ_177 hj) (by omega)).1) Φ hc h)
  obtain ⟨h1, h234⟩ := Bool.and_eq_true_iff.mp hc
  obtain ⟨h2, h34⟩ := Bool.and_eq_true_iff.mp h234
  obtain ⟨h3, h4⟩ := Bool.and_eq_true_iff.mp h34
  clear hc h234 h34 hmt
  obtain ⟨p, g1, rfl⟩ := inB_nat (m := ptN K' G - 1) (by omega) rfl h1
  have hp : p < ptN K' G := by omega
  have hl3 : ∃ l, l < (if p2 = 0 then M else N) ∧ p3 = Int32.ofNat l := by
    by_cases e : p2 = 0
    · rw [if_pos e] at h3 ⊢
      obtain ⟨l, k1, k2⟩ := inB_nat (m := M - 1) (by omega) rfl h3
      exact ⟨l, by omega, k2⟩
    · rw [if_neg e] at h3 ⊢
      obtain ⟨l, k1, k2⟩ := inB_nat (m := N - 1) (by omega) rfl h3
      exact ⟨l, by omega, k2⟩
  obtain ⟨l, hl, rfl⟩ := hl3
  have hl3 : l < 3 := by split at hl <;> omega
  have hb := av_bd hs hp
  refine s_laysAverage hN q1 q3 q4 (by omega) q9 q11 q12 (fun k hk => q14 p k hp hk) q15 (fun s2 f2 T2 => ?_)
  have hN2 : 201 ≤ sN s2 := Nat.le_trans hN f2.1
  refine x_kernel hN2 (by omega) (by omega) T2 (fun n a c hf s10 hF => ?_) (found (by omega) (by omega) hb)
  obtain ⟨g1, g2, g3, g4, g5, g6⟩ := fsN_ok (by omega) 4 1 n a c (by omega) hf
  have hIh := set_lt g2 g4
  have hJw := set_lt g3 g5
  obtain ⟨t1, t2, t3, t4⟩ := kT_pos g1 hb hIh hJw g6
  obtain ⟨f10, v16, v17, v3, v4⟩ := hF
  have F10 : Fr (fun a j => wTb a j ∨ wKx a j ∨ a = 143) 0 0 st s10 := Fr_tr (x := 0) (y := 0) (Fr_mo f2 (fun _ _ h => Or.inl h) (Nat.le_refl _) (Nat.le_refl _)) (Fr_mo f10 (fun _ _ h => Or.inr (Or.inl h)) (Nat.le_refl _) (Nat.le_refl _))
  have hTp : 0 < (kTot (avT K' G p (gmF st)) n (gD a) (gD c)).toInt := by omega
  -- the weight both sides tell
  have hx : w_X0_plan_l60 (fun s r => w_X4_plan s (Int32.ofNat p) p2 (Int32.ofNat l) p4 (fun s' r' => (r = r' → K s') ∧ (¬ r = r' → E s'))) (fun (s69 : St) (x4 : Int32) (x6 : Int64) => w_X0_plan_b118 (fun s r => w_X4_plan s (Int32.ofNat p) p2 (Int32.ofNat l) p4 (fun s' r' => (r = r' → K s') ∧ (¬ r = r' → E s'))) s69 x4 x6) gFU s10 p2 (Int32.ofNat l) p4 (Int32.ofNat n) 0 0 := by
    refine x_plan_l (K := if p2 = 0 then gD a else gD c) (W := if p2 = 0 then kRw (avT K' G p (gmF st)) n (gD a) (gD c) else kCw (avT K' G p (gmF st)) n (gD a) (gD c)) (by omega) (by omega) (fun k hk => ?_) (fun k hk => ?_) ?_
    · have := hIh k hk
      have := hJw k hk
      by_cases e : p2 = 0
      · rw [if_pos e, if_pos e]; exact ⟨(v4 k hk).1, by omega⟩
      · rw [if_neg e, if_neg e]; exact ⟨(v4 k hk).2, by omega⟩
    · by_cases e : p2 = 0
      · rw [if_pos e, if_pos e]; exact (v3 k hk).1
      · rw [if_neg e, if_neg e]; exact (v3 k hk).2
    · generalize hwt : wtF (if p2 = 0 then gD a else gD c) (if p2 = 0 then kRw (avT K' G p (gmF st)) n (gD a) (gD c) else kCw (avT K' G p (gmF st)) n (gD a) (gD c)) l n = wt
      unfold w_X0_plan_b118
      rw [v16]
      refine s_X2_is (by omega) (fun v hv => ?_) (fun hv => by rw [isR_pos hTp] at hv; cases hv)
      rw [isR_pos hTp] at hv
      cases hv
      have FX0 : Fr (fun a j => wTb a j ∨ wKx a j ∨ a = 143) 0 0 st (putP s10 143 (lowR wt (kTot (avT K' G p (gmF st)) n (gD a) (gD c)))) := Fr_L (Fr_L F10 (Or.inl (Or.inr (Or.inr rfl)))) (Or.inl (Or.inr (Or.inr rfl)))
      have e0 : sL (putP s10 143 (lowR wt (kTot (avT K' G p (gmF st)) n (gD a) (gD c)))) 143 0 = (lowR wt (kTot (avT K' G p (gmF st)) n (gD a) (gD c))).1 := by unfold putP; rw [gL_pL, if_neg (by omega), gL_pL, if_pos ⟨rfl, rfl⟩]
      have e1 : sL (putP s10 143 (lowR wt (kTot (avT K' G p (gmF st)) n (gD a) (gD c)))) 143 1 = (lowR wt (kTot (avT K' G p (gmF st)) n (gD a) (gD c))).2 := by unfold putP; rw [gL_pL, if_pos ⟨rfl, rfl⟩]
      generalize putP s10 143 (lowR wt (kTot (avT K' G p (gmF st)) n (gD a) (gD c))) = sx at FX0 e0 e1
      have FX : Fr Qt 0 0 st sx := Fr_mo FX0 (fun a j h => Qt_x (by unfold wTb wKx wSv at h; omega)) (Nat.le_refl _) (Nat.le_refl _)
      have hNx : 201 ≤ sN sx := Nat.le_trans hN FX.1
      have zx : ∀ j, j < 96 → sI sx 177 j = sI st 177 j := fun j hj => (fr_at FX (Or.inl (by omega)) (nQ_177 hj)).1
      have gx : gmF sx = gmF st := gm_eq FX0 hN (fun j hw => by unfold wTb wKx wSv at hw; omega)
      have hm : ∀ Φ : St → Int64 → Prop, (∀ s3, Fr Qt 0 0 sx s3 → Φ s3 (if p4 = 0 then (lowR wt (kTot (avT K' G p (gmF st)) n (gD a) (gD c))).1 else (lowR wt (kTot (avT K' G p (gmF st)) n (gD a) (gD c))).2)) → w_X4_plan sx (Int32.ofNat p) p2 (Int32.ofNat l) p4 Φ := fun Φ hΦ => by
        have go : ∀ z0 : Nat, (z0 = M ∨ z0 = N) → inB (Int32.ofNat l).toInt64 0 (Int64.ofInt ((z0 - 1 : Nat) : Int)) = true → w_X4_plan_b37 Φ sx (Int32.ofNat p) p2 (Int32.ofNat l) p4 (Int32.ofNat z0) 0 (Int32.ofNat l).toInt64 := fun z0 hz0 hin => by
          unfold w_X4_plan_b37
          rw [pe_X4_isIn, sub1_64 (by omega) (by omega), hin, ib_z]
          refine ⟨fun h => (by cases h), fun _ => ?_⟩
          rw [pe_X4_isPart, h4, ib_nz, ib_z]
          refine ⟨fun _ => ?_, fun h => (by cases h)⟩
          refine s_averages hNx q1 q2 q3 q4 hp ((zx 0 (by omega)).trans q5) ((zx 1 (by omega)).trans q6) ((zx 2 (by omega)).trans q7) ((zx 3 (by omega)).trans q8) (fun s5 f5 T5 => ?_)
          rw [gx] at T5
          refine m_kernel (Nat.le_trans hNx f5.1) (by omega) (by omega) T5 (hBd_ok hb) (fun n' a' c' hf' s6 hF' => ?_) (found (by omega) (by omega) hb)
          rw [hf] at hf'
          cases hf'
          obtain ⟨f6, w29, w30, w3, w4, w5⟩ := hF'
          rintro _ rfl
          have F6 : Fr Qt 0 0 sx (putI s6 175 20 0) := Fr_I (W := Qt) (Fr_tr (x := 0) (y := 0) (Fr_mo f5 (fun a j h => Qt_x (by unfold wTm at h; omega)) (Nat.le_refl _) (Nat.le_refl _)) (Fr_mo f6 (fun a j h => Qt_x (by unfold wKy wKm at h; omega)) (Nat.le_refl _) (Nat.le_refl _))) (Or.inl (Qt_175 (by omega)))
          have h90 : w_X4_plan_b90 Φ (putI s6 175 20 0) p4 wt := by
            unfold w_X4_plan_b90
            rw [gL_pI, w29]
            refine s_lowest (c := false) (by rw [gI_pI, if_pos ⟨rfl, rfl⟩]; rfl) (fun _ => by omega) (fun s7 f7 c7 l7 => ?_)
            have v7 := l7 rfl
            have h9 := hΦ s7 (Fr_tr (x := 0) (y := 0) F6 (Fr_mo f7 wR_Q (Nat.le_refl _) (Nat.le_refl _)))
            rw [← v7] at h9
            refine ⟨fun hp4 => ?_, fun hp4 => ?_⟩
            · rw [if_neg hp4] at h9; exact h9
            · rw [if_pos hp4] at h9; exact h9
          refine ⟨fun hp2 => ?_, fun hp2 => ?_⟩
          · rw [if_neg hp2, if_neg hp2] at hwt
            rw [vp_of (by omega), nn_of (by omega), gL_pI, wt_eq (f := fun j => sL s6 192 j) (K := gD c) (W := kCw (avT K' G p (gmF st)) n (gD a) (gD c)) g3.2.1 (fun k hk => (w3 k hk).1) (fun hne => w4 l (by omega) hne), hwt]
            exact ⟨by omega, h90⟩
          · rw [if_pos hp2, if_pos hp2] at hwt
            rw [vp_of (by omega), nn_of (by omega), gL_pI, wt_eq (f := fun j => sL s6 191 j) (K := gD a) (W := kRw (avT K' G p (gmF st)) n (gD a) (gD c)) g2.2.1 (fun k hk => (w3 k hk).2) (fun hne => w5 l (by omega) hne), hwt]
            exact ⟨by omega, h90⟩
        unfold w_X4_plan
        rw [pe_X4_isPoint ((zx 0 (by omega)).trans q5) ((zx 1 (by omega)).trans q6) q1 q2, h1, ib_z]
        refine ⟨fun h => (by cases h), fun _ => ?_⟩
        rw [pe_X4_isPart, h2, ib_z]
        refine ⟨fun h => (by cases h), fun _ => ?_⟩
        rw [zx 3 (by omega), zx 2 (by omega), q7, q8]
        refine ⟨fun hp2 => go N (Or.inr rfl) (by rw [if_neg hp2] at h3; exact h3), fun hp2 => go M (Or.inl rfl) (by rw [if_pos hp2] at h3; exact h3)⟩
      unfold w_X2_part
      refine ⟨fun hp2 => ?_, fun hp2 => ?_⟩
      · rw [e1]
        refine hm _ (fun s3 f3 => ?_)
        rw [if_neg hp2]
        exact ⟨fun _ => hK _ (Inv_q hI (Fr_tr (x := 0) (y := 0) FX f3) (by omega) (by omega)), fun h => absurd rfl h⟩
      · rw [e0]
        refine hm _ (fun s3 f3 => ?_)
        rw [if_pos hp2]
        exact ⟨fun _ => hK _ (Inv_q hI (Fr_tr (x := 0) (y := 0) FX f3) (by omega) (by omega)), fun h => absurd rfl h⟩
  exact hx
