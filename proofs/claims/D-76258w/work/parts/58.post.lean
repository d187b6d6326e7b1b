/-! PLAIN LAW, 19: posterior -/
set_option maxRecDepth 100000
theorem pt4B : ∀ G, G < 5 → 1 ≤ G → (∀ p, p < ptN 2 G → ∀ k, k < 3 → ptV 2 G p k ≤ 4) ∧ ∀ p, p < ptN 3 G → ∀ k, k < 3 → ptV 3 G p k ≤ 4 := by decide +kernel
theorem pt4 {K G p k : Nat} (hK : K = 2 ∨ K = 3) (hG : 1 ≤ G ∧ G ≤ 4) (hp : p < ptN K G) (hk : k < 3) : ptV K G p k ≤ 4 := by
  rcases hK with rfl | rfl
  · exact (pt4B G (by omega) hG.1).1 p hp k hk
  · exact (pt4B G (by omega) hG.1).2 p hp k hk
theorem in999 {l : Int64} (h : inB l 0 999 = true) : 0 ≤ l.toInt ∧ l.toInt ≤ 999 := by
  unfold inB at h
  obtain ⟨h1, h2⟩ := Bool.and_eq_true_iff.mp h
  have h1 := of_decide_eq_true h1
  have h2 := of_decide_eq_true h2
  rw [ge064] at h1
  rw [le64] at h2
  exact ⟨h1, h2⟩
theorem t64n {n : Nat} (h : n < 2 ^ 31) : (Int32.ofNat n).toInt64.toInt = (n : Int) := by rw [Int32.toInt_toInt64, ti_of h]
/-- a sum of such terms stays small -/
theorem smL_b {v : Nat → Int64} {g : Nat → Nat} : ∀ k, k ≤ 3 → (∀ i, i < k → (0 ≤ (v i).toInt ∧ (v i).toInt ≤ 999) ∧ g i ≤ 4) → 0 ≤ (smL (fun i => v i * (Int32.ofNat (g i)).toInt64) k).toInt ∧ (smL (fun i => v i * (Int32.ofNat (g i)).toInt64) k).toInt ≤ 3996 * (k : Int)
  | 0, _, _ => by show 0 ≤ (0 : Int) ∧ (0 : Int) ≤ _; omega
  | k + 1, hk, h => by
    obtain ⟨i1, i2⟩ := smL_b k (by omega) (fun i hi => h i (by omega))
    obtain ⟨⟨h1, h2⟩, h3⟩ := h k (by omega)
    have m1 : 0 ≤ (v k).toInt * ((g k : Nat) : Int) := Int.mul_nonneg h1 (by omega)
    have m2 : (v k).toInt * ((g k : Nat) : Int) ≤ 999 * 4 := Int.mul_le_mul h2 (by omega) (by omega) (by omega)
    have e : (v k * (Int32.ofNat (g k)).toInt64).toInt = (v k).toInt * ((g k : Nat) : Int) := by
      rw [tmul, t64n (by omega)]; apply bm_fit; unfold fit; omega
    rw [smL, tadd, e, bm_fit (by unfold fit; omega)]
    omega
theorem e_posterior {st : St} {p1 p2 p3 : Int32} {Φ : St → Int64 → Prop} (h : w_X0_posterior_b30 Φ st p1 p2 p3 (ib (inB p1.toInt64 0 4 && (inB p2.toInt64 0 ((sI st 2 0) - 1).toInt64 && inB p3.toInt64 0 1)))) : w_X0_posterior st p1 p2 p3 Φ := by
  unfold w_X0_posterior w_X0_posterior_b29
  simp only [pe_X1_isState, pe_X0_isSheet, pe_X0_isPart, ib_z]
  revert h
  cases inB p1.toInt64 0 4 <;> cases inB p2.toInt64 0 ((sI st 2 0) - 1).toInt64 <;> cases inB p3.toInt64 0 1 <;> simp [ib]
theorem x_post_1 {st : St} {Φ : St → Int64 → Prop} {E1 : St → Int32 → Int32 → Int32 → Int64 → Prop} {E2 : St → Nat → Prop} {p2 p3 : Int32} {k1 K p : Nat} {g : Nat → Nat} (hk1 : k1 < 5) (hS1 : Sk st k1) (hK : K ≤ 3) (hp : p < 15) (hl : ∀ i, i < K → lostB st k1 (Int32.ofNat i) = false) (hN9 : sN st + 4 ≤ gCAP) (hs9 : sS st + 229 ≤ gCAPS) (e0 : sI st 2 0 = Int32.ofNat K) (e4 : sI st 2 4 = Int32.ofNat p) (eg : ∀ k, k < 3 → sI st (2 + (16 + p)) k = Int32.ofNat (g k)) (h1 : (∀ i, i < K → inB (sL st 185 (60 * k1 + i)) 0 999 = true) → E1 st (Int32.ofNat k1) p2 p3 (smL (fun i => sL st 185 (60 * k1 + i) * (Int32.ofNat (g i)).toInt64) K)) (h2 : (∃ i, i < K ∧ inB (sL st 185 (60 * k1 + i)) 0 999 = false) → ∀ st' e, Fr noW 1 7 st st' → sN st ≤ e → sI st' e 6 = 5 → E2 st' e) : w_X0_posterior_l59 Φ E1 E2 gFU st (Int32.ofNat k1) p2 p3 0 0 := by
  refine loop_up (α := Int64 × Int32) (L := fun m a => w_X0_posterior_l59 Φ E1 E2 m st (Int32.ofNat k1) p2 p3 a.1 a.2) K (fun i a => a.2 = Int32.ofNat i ∧ a.1 = smL (fun i => sL st 185 (60 * k1 + i) * (Int32.ofNat (g i)).toInt64) i ∧ ∀ j, j < i → inB (sL st 185 (60 * k1 + j)) 0 999 = true) (fun m i a hi hI k9 => ?_) (fun m a hI => ?_) gFU 0 (0, 0) (by omega) (gFU_big (by omega)) ⟨rfl, rfl, fun j hj => absurd hj (by omega)⟩
  · obtain ⟨x, y⟩ := a
    obtain ⟨i1, i2, hg⟩ := hI
    dsimp only at i1 i2
    subst i1 i2
    show w_X0_posterior_l59 Φ E1 E2 (m + 1) st _ _ _ _ _
    rw [w_X0_posterior_l59, e0, le_of (by omega) (by omega), vp_of (by omega), nn_of (by omega)]
    refine ⟨fun h => absurd h (by omega), fun _ => ⟨hk1, s_getN hS1 (by omega) hN9 hs9 (fun _ _ => ?_) (fun h => by rw [hl i hi] at h; cases h)⟩⟩
    rw [pe_X0_in]
    refine s_need (fun hc => ?_) (fun hc => ⟨by omega, by omega, fun st' f e => h2 ⟨i, hi, hc⟩ st' _ f (Nat.le_refl _) e⟩)
    rw [e4, vp_of (by omega), vp_of (by omega), nn_of (by omega), nn_of (by omega), eg i (by omega)]
    refine ⟨hp, by omega, ?_⟩
    rintro _ rfl
    refine k9 (_, _) ?_
    dsimp only
    refine ⟨succ_of i, rfl, fun j hj => ?_⟩
    by_cases e : j = i
    · rw [e]; exact hc
    · exact hg j (by omega)
  · obtain ⟨x, y⟩ := a
    obtain ⟨i1, i2, hg⟩ := hI
    dsimp only at i1 i2
    subst i1 i2
    show w_X0_posterior_l59 Φ E1 E2 (m + 1) st _ _ _ _ _
    rw [w_X0_posterior_l59, e0]
    exact ⟨fun _ => h1 hg, fun h => absurd (Int32.le_refl _) h⟩
theorem m_post_1 {st : St} {Φ : St → Int64 → Prop} {E1 : St → Int32 → Int32 → Int32 → Int64 → Prop} {E2 : St → Prop} {p2 p3 : Int32} {k1 K G p : Nat} (hk1 : k1 < 5) (hK : K = 2 ∨ K = 3) (hG : 1 ≤ G ∧ G ≤ 4) (hp : p < ptN K G) (e0 : sI st 177 0 = Int32.ofNat K) (e1 : sI st 177 1 = Int32.ofNat G) (e4 : sI st 177 31 = Int32.ofNat p) (h1 : (∀ i, i < K → inB (sL st 185 (60 * k1 + i)) 0 999 = true) → E1 st (Int32.ofNat k1) p2 p3 (smL (fun i => sL st 185 (60 * k1 + i) * (Int32.ofNat (ptV K G p i)).toInt64) K)) (h2 : (∃ i, i < K ∧ inB (sL st 185 (60 * k1 + i)) 0 999 = false) → E2 st) : w_X4_posterior_l55 Φ E1 E2 gFU st (Int32.ofNat k1) p2 p3 0 0 := by
  refine loop_up (α := Int64 × Int32) (L := fun m a => w_X4_posterior_l55 Φ E1 E2 m st (Int32.ofNat k1) p2 p3 a.1 a.2) K (fun i a => a.2 = Int32.ofNat i ∧ a.1 = smL (fun i => sL st 185 (60 * k1 + i) * (Int32.ofNat (ptV K G p i)).toInt64) i ∧ ∀ j, j < i → inB (sL st 185 (60 * k1 + j)) 0 999 = true) (fun m i a hi hI k9 => ?_) (fun m a hI => ?_) gFU 0 (0, 0) (by omega) (gFU_big (by omega)) ⟨rfl, rfl, fun j hj => absurd hj (by omega)⟩
  · obtain ⟨x, y⟩ := a
    obtain ⟨i1, i2, hg⟩ := hI
    dsimp only at i1 i2
    subst i1 i2
    show w_X4_posterior_l55 Φ E1 E2 (m + 1) st _ _ _ _ _
    rw [w_X4_posterior_l55, e0, le_of (by omega) (by omega), pe_X4_numberAt hk1 (by omega), pe_X4_isIn, ib_nz, ib_z]
    refine ⟨fun h => absurd h (by omega), fun _ => ⟨fun hc => ?_, fun hc => h2 ⟨i, hi, hc⟩⟩⟩
    rw [e4]
    refine s_X4_gives hK hG e0 e1 hp hi ?_
    rw [pe_X4_numberAt hk1 (by omega)]
    rintro _ rfl
    refine k9 (_, _) ?_
    dsimp only
    refine ⟨succ_of i, ?_, fun j hj => ?_⟩
    · rw [smL, Int64.mul_comm]
    · by_cases e : j = i
      · rw [e]; exact hc
      · exact hg j (by omega)
  · obtain ⟨x, y⟩ := a
    obtain ⟨i1, i2, hg⟩ := hI
    dsimp only at i1 i2
    subst i1 i2
    show w_X4_posterior_l55 Φ E1 E2 (m + 1) st _ _ _ _ _
    rw [w_X4_posterior_l55, e0]
    exact ⟨fun _ => h1 hg, fun h => absurd (Int32.le_refl _) h⟩
theorem Qt_143 {j : Nat} : Qt 143 j := ⟨by omega, by unfold REr; omega, by unfold RHr; omega, by unfold RIm; omega, by unfold RZz; omega, by unfold RPy; omega, by unfold RTp; omega, by unfold RLi; omega, by unfold RSx; omega, by unfold RNt; omega⟩
theorem Qt_175 {j : Nat} (h : 14 ≤ j) : Qt 175 j := ⟨by omega, by unfold REr; omega, by unfold RHr; omega, by unfold RIm; omega, by unfold RZz; omega, by unfold RPy; omega, by unfold RTp; omega, by unfold RLi; omega, by unfold RSx; omega, by unfold RNt; omega⟩
theorem wR_Q : ∀ a j, wR a j → Qt a j := fun a j h => by
  obtain ⟨rfl, h⟩ := h
  exact Qt_175 (by omega)
theorem o_posterior {b : Nat} {st : St} {p1 p2 p3 : Int32} {K E : St → Prop} (hI : Inv (b + 1) st) (hK : ∀ s, Inv b s → K s) : w_X0_posterior st p1 p2 p3 (fun s r => w_X4_posterior s p1 p2 p3 (fun s' r' => (r = r' → K s') ∧ (¬ r = r' → E s'))) := by
  obtain ⟨hN, hc1, hc2⟩ := Rm1 hI
  obtain ⟨K', G, M, N, q1, q2, q3, q4, q5, q6, q7, q8, q9, q10, q11, q12, q13, q14, q15, q16, q17, ⟨p, hp, q18⟩⟩ := hs_of hI
  have hS := iSx hI
  have hp15 := pt15 q1 q2
  refine e_posterior ?_
  unfold w_X0_posterior_b30
  refine needL (M := fun s Ψ => w_X4_posterior s p1 p2 p3 Ψ) hI hK (by decide) (fun hc => ?_) (fun hc s2 f2 Φ h => ?_)
  · obtain ⟨h1, h23⟩ := Bool.and_eq_true_iff.mp hc
    obtain ⟨h2, h3⟩ := Bool.and_eq_true_iff.mp h23
    clear hc h23
    rw [q9, sub1_64 (by omega) (by omega)] at h2
    obtain ⟨k1, g1, rfl⟩ := inB_nat (m := 4) (by omega) rfl h1
    obtain ⟨k, g2, rfl⟩ := inB_nat (m := K' - 1) (by omega) rfl h2
    have hS1 := hS.1 k1 (by omega)
    have hm : ∀ s, (∀ a j, (a = 177 ∧ j < 96) ∨ (185 ≤ a ∧ a ≤ 187) → sI s a j = sI st a j) → ∀ Φ : St → Int64 → Prop, (lostB st k1 (Int32.ofNat (K' - 1)) = true → w_X4_findsFar s 8 Φ) → (lostB st k1 (Int32.ofNat (K' - 1)) = false → w_X4_posterior_l55 Φ (fun (s81 : St) (x1 : Int32) (x2 : Int32) (x3 : Int32) (x4 : Int64) => w_X4_posterior_b122 Φ s81 x1 x2 x3 x4) (fun (s118 : St) => w_X4_posterior_b83 Φ s118) gFU s (Int32.ofNat k1) (Int32.ofNat k) p3 0 0) → w_X4_posterior s (Int32.ofNat k1) (Int32.ofNat k) p3 Φ := fun s hs Φ a1 a2 => by
      have hfl : fewB s k1 (Int32.ofNat K') = lostB st k1 (Int32.ofNat (K' - 1)) := by
        rw [← few_lost hS1 (by omega) (by omega)]
        unfold fewB
        rw [hs 186 k1 (Or.inr (by omega)), hs 187 k1 (Or.inr (by omega))]
      have e0 := (hs 177 0 (Or.inl ⟨rfl, by omega⟩)).trans q5
      unfold w_X4_posterior
      rw [pe_X4_isSheet, h1, ib_z]
      refine ⟨fun h => (by cases h), fun _ => ?_⟩
      rw [pe_X4_isState e0 q1, h2, ib_z]
      refine ⟨fun h => (by cases h), fun _ => ?_⟩
      rw [pe_X4_isPart, h3, ib_nz, ib_z]
      refine ⟨fun _ => ?_, fun h => (by cases h)⟩
      rw [e0, pe_X4_hasFew (by omega), hfl, ib_z]
      refine ⟨a2, fun hn => a1 ?_⟩
      cases hl : lostB st k1 (Int32.ofNat (K' - 1))
      · exact absurd hl hn
      · rfl
    have hsE : ∀ {k x y s2}, Fr (QE 1 k) x y st s2 → ∀ a j, (a = 177 ∧ j < 96) ∨ (185 ≤ a ∧ a ≤ 187) → Same st s2 a j := fun {k x y s2} f2 a j h => q_at f2 hN (by omega) (by
      rcases h with h | h
      · rw [h.1]; exact nQ_177 h.2
      · exact nQ_Sx (by unfold RSx; omega)) (by omega)
    rw [vp_of (by omega), nn_of (by omega), q9, sub1n (by omega) (by omega)]
    refine ⟨by omega, s_getN hS1 (by omega) (by omega) (by omega) (fun hl _ => ?_) (fun hl st1 e f1 he e1 => ?_)⟩
    · have hlall : ∀ i, i < K' → lostB st k1 (Int32.ofNat i) = false := fun i hi => lost_mono hS1 (by omega) (by omega) hl
      refine x_post_1 (K := K') (p := p) (g := fun k => ptV K' G p k) (by omega) hS1 (by omega) (by omega) hlall (by omega) (by omega) q9 (q14.trans q18) (fun j hj => q15 p j hp hj) (fun hgood => ?_) (fun hbad st1 e f1 he e1 => ?_)
      · have hsum := smL_b (v := fun i => sL st 185 (60 * k1 + i)) (g := fun i => ptV K' G p i) K' (by omega) (fun i hi => ⟨in999 (hgood i hi), pt4 q1 q2 hp (by omega)⟩)
        -- the reference's loop ends
        have hmend : ∀ s, (∀ a j, (a = 177 ∧ j < 96) ∨ (185 ≤ a ∧ a ≤ 187) → Same st s a j) → ∀ Φ : St → Int64 → Prop, w_X4_posterior_b122 Φ s (Int32.ofNat k1) (Int32.ofNat k) p3 (smL (fun i => sL st 185 (60 * k1 + i) * (Int32.ofNat (ptV K' G p i)).toInt64) K') → w_X4_posterior s (Int32.ofNat k1) (Int32.ofNat k) p3 Φ := fun s hs Φ hΦ => by
          have s5 : ∀ j, sL s 185 j = sL st 185 j := fun j => (hs 185 j (Or.inr (by omega))).2.1
          refine hm s (fun a j h => (hs a j h).1) Φ (fun h => by rw [hl] at h; cases h) (fun _ => ?_)
          refine m_post_1 (K := K') (G := G) (p := p) (by omega) q1 q2 hp ((hs 177 0 (Or.inl ⟨rfl, by omega⟩)).1.trans q5) ((hs 177 1 (Or.inl ⟨rfl, by omega⟩)).1.trans q6) ((hs 177 31 (Or.inl ⟨rfl, by omega⟩)).1.trans q18) (fun _ => ?_) (fun ⟨i, hi, hb⟩ => by rw [s5, hgood i hi] at hb; cases hb)
          simp only [s5]
          exact hΦ
        generalize smL (fun i => sL st 185 (60 * k1 + i) * (Int32.ofNat (ptV K' G p i)).toInt64) K' = sum at hsum hmend
        unfold w_X0_posterior_b130
        rw [vp_of (by omega), nn_of (by omega)]
        refine ⟨by omega, s_getN hS1 (by omega) (by omega) (by omega) (fun _ _ => ?_) (fun h => by rw [hlall k (by omega)] at h; cases h)⟩
        rw [q14, q18, vp_of (by omega), vp_of (by omega), nn_of (by omega), nn_of (by omega), q15 p k hp (by omega)]
        refine ⟨by omega, by omega, ?_⟩
        unfold w_X0_shareOf
        refine ⟨fun hz => ?_, fun hz => ?_⟩
        · refine s_junk (A := 3) (B := 40) (Φw := fun s e => w_X0_answersFar s e (fun s r => w_X4_posterior s (Int32.ofNat k1) (Int32.ofNat k) p3 (fun s' r' => (r = r' → K s') ∧ (¬ r = r' → E s')))) (by omega) (by omega) (fun st1 e f1 he e1 => errL (M := fun s Ψ => w_X4_posterior s (Int32.ofNat k1) (Int32.ofNat k) p3 Ψ) hI hK (k := 7) (by decide) f1 he e1 (by omega) (by omega) (fun s2 f2 Φ h => hmend s2 (hsE f2) Φ ?_))
          exact ⟨fun h2 => absurd hz h2, fun _ => h⟩
        · rintro _ _
          have hz' : sum.toInt ≠ 0 := fun h => hz (by rw [eq64z]; exact h)
          have his : isR (sL st 185 (60 * k1 + k) * (Int32.ofNat (ptV K' G p k)).toInt64) sum = some (lowR (sL st 185 (60 * k1 + k) * (Int32.ofNat (ptV K' G p k)).toInt64) sum) := isR_pos (by omega)
          refine s_X2_is hz' (fun v hv => ?_) (fun h => by rw [his] at h; cases h)
          rw [his] at hv
          cases hv
          -- the component's answer
          have fx : Fr Qt 0 0 st (putP st 143 (lowR (sL st 185 (60 * k1 + k) * (Int32.ofNat (ptV K' G p k)).toInt64) sum)) := Fr_L (Fr_L Fr_rf (Or.inl Qt_143)) (Or.inl Qt_143)
          have hx0 : sL (putP st 143 (lowR (sL st 185 (60 * k1 + k) * (Int32.ofNat (ptV K' G p k)).toInt64) sum)) 143 0 = (lowR (sL st 185 (60 * k1 + k) * (Int32.ofNat (ptV K' G p k)).toInt64) sum).1 := by unfold putP; rw [gL_pL, if_neg (by omega), gL_pL, if_pos ⟨rfl, rfl⟩]
          have hx1 : sL (putP st 143 (lowR (sL st 185 (60 * k1 + k) * (Int32.ofNat (ptV K' G p k)).toInt64) sum)) 143 1 = (lowR (sL st 185 (60 * k1 + k) * (Int32.ofNat (ptV K' G p k)).toInt64) sum).2 := by unfold putP; rw [gL_pL, if_pos ⟨rfl, rfl⟩]
          generalize putP st 143 (lowR (sL st 185 (60 * k1 + k) * (Int32.ofNat (ptV K' G p k)).toInt64) sum) = sx at fx hx0 hx1
          have hsx : ∀ a j, (a = 177 ∧ j < 96) ∨ (185 ≤ a ∧ a ≤ 187) → Same st sx a j := fun a j h => fr_at fx (Or.inl (by omega)) (by
            rcases h with h | h
            · rw [h.1]; exact nQ_177 h.2
            · exact nQ_Sx (by unfold RSx; omega))
          -- the reference's
          have hmk : ∀ Φ : St → Int64 → Prop, (∀ s3, Fr Qt 0 0 sx s3 → Φ s3 (if p3 = 0 then (lowR (sL st 185 (60 * k1 + k) * (Int32.ofNat (ptV K' G p k)).toInt64) sum).1 else (lowR (sL st 185 (60 * k1 + k) * (Int32.ofNat (ptV K' G p k)).toInt64) sum).2)) → w_X4_posterior sx (Int32.ofNat k1) (Int32.ofNat k) p3 Φ := fun Φ hΦ => by
            refine hmend sx hsx Φ ⟨fun _ => ?_, fun h => absurd h hz⟩
            rintro _ rfl
            have f0 : Fr Qt 0 0 sx (putI sx 175 20 0) := Fr_I Fr_rf (Or.inl (Qt_175 (by omega)))
            have z0 : ∀ j, j < 96 → sI (putI sx 175 20 0) 177 j = sI st 177 j := fun j hj => by rw [gI_pI, if_neg (by omega)]; exact (hsx 177 j (Or.inl ⟨rfl, hj⟩)).1
            rw [(z0 31 (by omega)).trans q18]
            refine s_X4_gives q1 q2 ((z0 0 (by omega)).trans q5) ((z0 1 (by omega)).trans q6) hp (by omega) ?_
            rw [pe_X4_numberAt (by omega) (by omega), gL_pI, (hsx 185 _ (Or.inr (by omega))).2.1, Int64.mul_comm]
            refine s_lowest (c := false) (by rw [gI_pI, if_pos ⟨rfl, rfl⟩]; rfl) (fun _ => hz') (fun s3 f3 c3 v3 => ?_)
            have v4 := v3 rfl
            have F3 : Fr Qt 0 0 sx s3 := Fr_tr (x := 0) (y := 0) f0 (Fr_mo f3 wR_Q (Nat.le_refl _) (Nat.le_refl _))
            refine ⟨fun hp3 => ?_, fun hp3 => ?_⟩
            · have h9 := hΦ s3 F3
              rw [if_neg hp3, ← v4] at h9
              exact h9
            · have h9 := hΦ s3 F3
              rw [if_pos hp3, ← v4] at h9
              exact h9
          unfold w_X2_part
          refine ⟨fun hp3 => ?_, fun hp3 => ?_⟩
          · rw [hx1]
            refine hmk _ (fun s3 f3 => ?_)
            rw [if_neg hp3]
            exact ⟨fun _ => hK _ (Inv_q hI (Fr_tr (x := 0) (y := 0) fx f3) (by omega) (by omega)), fun h => absurd rfl h⟩
          · rw [hx0]
            refine hmk _ (fun s3 f3 => ?_)
            rw [if_pos hp3]
            exact ⟨fun _ => hK _ (Inv_q hI (Fr_tr (x := 0) (y := 0) fx f3) (by omega) (by omega)), fun h => absurd rfl h⟩
      · refine errL (M := fun s Ψ => w_X4_posterior s (Int32.ofNat k1) (Int32.ofNat k) p3 Ψ) hI hK (k := 5) (by decide) f1 he e1 (by omega) (by omega) (fun s2 f2 Φ h => ?_)
        refine hm s2 (fun a j h => (hsE f2 a j h).1) Φ (fun h => by rw [hl] at h; cases h) (fun _ => ?_)
        have s5 : ∀ j, sL s2 185 j = sL st 185 j := fun j => (hsE f2 185 j (Or.inr (by omega))).2.1
        refine m_post_1 (K := K') (G := G) (p := p) (by omega) q1 q2 hp ((hsE f2 177 0 (Or.inl ⟨rfl, by omega⟩)).1.trans q5) ((hsE f2 177 1 (Or.inl ⟨rfl, by omega⟩)).1.trans q6) ((hsE f2 177 31 (Or.inl ⟨rfl, by omega⟩)).1.trans q18) (fun hg => ?_) (fun _ => h)
        obtain ⟨i, hi, hb⟩ := hbad
        have := hg i hi
        rw [s5, hb] at this; cases this
    · refine errL (M := fun s Ψ => w_X4_posterior s (Int32.ofNat k1) (Int32.ofNat k) p3 Ψ) hI hK (k := 8) (by decide) f1 he e1 (by omega) (by omega) (fun s2 f2 Φ h => ?_)
      exact hm s2 (fun a j h => (hsE f2 a j h).1) Φ (fun _ => h) (fun h => by rw [hl] at h; cases h)
  · show w_X4_posterior s2 _ _ _ _
    unfold w_X4_posterior w_X4_posterior_b22
    rw [q9, sub1_64 (by omega) (by omega)] at hc
    rw [pe_X4_isSheet, ib_z]
    refine ⟨fun _ => h, fun g1 => ?_⟩
    rw [pe_X4_isState ((q_at f2 hN (by omega) (nQ_177 (by omega)) (by omega)).1.trans q5) q1, ib_z]
    refine ⟨fun _ => h, fun g2 => ?_⟩
    rw [pe_X4_isPart, ib_nz, ib_z]
    refine ⟨fun g4 => ?_, fun _ => h⟩
    rcases b_or hc with c | c
    · exact absurd c g1
    · rcases b_or c with c | c
      · exact absurd c g2
      · rw [c] at g4; cases g4
