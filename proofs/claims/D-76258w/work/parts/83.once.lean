/-! PLAIN LAW, 44: one round alone -/
set_option maxRecDepth 100000
def cvI (G K M p r c : Nat) (f : Nat → Nat → Nat → Int32) : Nat → Int32
  | 0 => 0
  | i + 1 => cvI G K M p r c f i + Int32.ofNat (ptV K G p i) * f i (r / M ^ i % M) c
def cvL (G K M p r c : Nat) (f : Nat → Nat → Nat → Int32) : Nat → Int64
  | 0 => 0
  | i + 1 => cvL G K M p r c f i + (Int32.ofNat (ptV K G p i) * f i (r / M ^ i % M) c).toInt64
def chT (K G M p : Nat) (f : Nat → Nat → Nat → Int32) (r c : Nat) : Int64 := (cvI G K M p r c f K).toInt64
def hK (K M : Nat) : Nat := if K = 2 then M * M else M * M * M
theorem cv_ok {G K M p r c : Nat} {f : Nat → Nat → Nat → Int32} (hM : 1 ≤ M ∧ M ≤ 3) : ∀ i, i ≤ 3 → (∀ k, k < i → ptV K G p k ≤ 4 ∧ ∀ d, d < 3 → -20 ≤ (f k d c).toInt ∧ (f k d c).toInt ≤ 20) → (-(80 * (i : Int)) ≤ (cvI G K M p r c f i).toInt ∧ (cvI G K M p r c f i).toInt ≤ 80 * (i : Int)) ∧ cvL G K M p r c f i = (cvI G K M p r c f i).toInt64
  | 0, _, _ => ⟨by show -(80 * (0 : Int)) ≤ 0 ∧ (0 : Int) ≤ 80 * 0; omega, rfl⟩
  | i + 1, hi, h => by
    obtain ⟨⟨i1, i2⟩, i3⟩ := cv_ok (r := r) hM i (by omega) (fun k hk => h k (by omega))
    obtain ⟨h1, h2⟩ := h i (by omega)
    obtain ⟨h2, h3⟩ := h2 (r / M ^ i % M) (by have := Nat.mod_lt (r / M ^ i) (show M > 0 by omega); omega)
    have hp : (((ptV K G p i : Nat) : Int) * (f i (r / M ^ i % M) c).toInt).natAbs ≤ 4 * 20 := by rw [Int.natAbs_mul]; exact Nat.mul_le_mul (by omega) (by omega)
    have e : (Int32.ofNat (ptV K G p i) * f i (r / M ^ i % M) c).toInt = ((ptV K G p i : Nat) : Int) * (f i (r / M ^ i % M) c).toInt := by
      rw [Int32.toInt_mul, ti_of (by omega)]; exact Int.bmod_eq_of_le (by omega) (by omega)
    have e2 : (cvI G K M p r c f (i + 1)).toInt = (cvI G K M p r c f i).toInt + (Int32.ofNat (ptV K G p i) * f i (r / M ^ i % M) c).toInt := by
      rw [cvI, Int32.toInt_add, e, Int.bmod_eq_of_le (by omega) (by omega)]
    refine ⟨by rw [e2, e]; push_cast; omega, ?_⟩
    rw [cvL, i3]
    apply ofI_inj
    rw [tadd, Int32.toInt_toInt64, Int32.toInt_toInt64, Int32.toInt_toInt64, e2]
    apply bm_fit
    rw [e]
    unfold fit; omega
theorem dv27 : ∀ i, i < 27 → ∀ N, N < 4 → 1 ≤ N → Int32.ofNat i / Int32.ofNat N = Int32.ofNat (i / N) ∧ Int32.ofNat i - Int32.ofNat (i / N) * Int32.ofNat N = Int32.ofNat (i % N) := by decide +kernel
theorem hK_b {K M : Nat} (hM : 1 ≤ M ∧ M ≤ 3) : 1 ≤ hK K M ∧ hK K M ≤ 27 := by
  unfold hK
  rcases (by omega : M = 1 ∨ M = 2 ∨ M = 3) with rfl | rfl | rfl <;> split <;> omega
theorem dg_s {r M i : Nat} : r / M ^ i / M = r / M ^ (i + 1) := by rw [Nat.div_div_eq_div_mul, Nat.pow_succ]
theorem s_laysChoices {st : St} {K G M N p : Nat} {Φ : St → Prop} (hN : 201 ≤ sN st) (hs : Hs st K G M N) (hp : p < ptN K G) (h : ∀ s, Fr wTb 0 0 st s → Tb s (chT K G M p (gmF st)) (hK K M) N → Φ s) : w_X0_laysChoices st (Int32.ofNat p) Φ := by
  obtain ⟨q1, q2, q3, q4, q5, q6, q7, q8, q9, q10, q11, q12, q13, q14, q15, q16⟩ := hs
  have hp15 := pt15 q1 q2
  have hb := hK_b (K := K) q3
  have cvB : ∀ r c, c < 3 → cvL G K M p r c (gmF st) K = chT K G M p (gmF st) r c := fun r c hc => (cv_ok q3 K (by omega) (fun k hk => ⟨pt4 q1 q2 hp (by omega), fun d hd => q16 k d c (by omega) hd hc⟩)).2
  have go : w_X0_laysChoices_b53 Φ st (Int32.ofNat p) (Int32.ofNat (hK K M)) := by
    unfold w_X0_laysChoices_b53
    rintro _ rfl _ rfl
    have e23 : sI (putI st 0 8 (Int32.ofNat (hK K M))) 2 3 = Int32.ofNat N := by rw [gI_pI, if_neg (by omega)]; exact q12
    rw [e23]
    have f0 : Fr wTb 0 0 st (putI (putI st 0 8 (Int32.ofNat (hK K M))) 0 9 (Int32.ofNat N)) := Fr_I (Fr_I Fr_rf (Or.inl (Or.inl ⟨rfl, Or.inl rfl⟩))) (Or.inl (Or.inl ⟨rfl, Or.inr rfl⟩))
    have x8 : sI (putI (putI st 0 8 (Int32.ofNat (hK K M))) 0 9 (Int32.ofNat N)) 0 8 = Int32.ofNat (hK K M) := by rw [gI_pI, if_neg (by omega), gI_pI, if_pos ⟨rfl, rfl⟩]
    have x9 : sI (putI (putI st 0 8 (Int32.ofNat (hK K M))) 0 9 (Int32.ofNat N)) 0 9 = Int32.ofNat N := by rw [gI_pI, if_pos ⟨rfl, rfl⟩]
    generalize putI (putI st 0 8 (Int32.ofNat (hK K M))) 0 9 (Int32.ofNat N) = s0 at f0 x8 x9
    refine loop_up (α := St × Int32) (L := fun m a => w_X0_laysChoices_l69 Φ (fun (s24 : St) => w_X0_laysChoices_b190 Φ s24) m a.1 (Int32.ofNat p) a.2) (hK K M) (fun i a => a.2 = Int32.ofNat i ∧ Fr wTb 0 0 st a.1 ∧ sI a.1 0 8 = Int32.ofNat (hK K M) ∧ sI a.1 0 9 = Int32.ofNat N ∧ ∀ r c, r < i → c < N → sL a.1 (96 + r) c = chT K G M p (gmF st) r c) (fun m i a hi hA k9 => ?_) (fun m a hA => ?_) gFU 0 (s0, 0) (by omega) (gFU_big (by omega)) ⟨rfl, f0, x8, x9, fun r c hr => absurd hr (by omega)⟩
    · obtain ⟨s, x⟩ := a
      obtain ⟨e, F, y8, y9, v⟩ := hA
      dsimp only at e F y8 y9 v
      subst e
      show w_X0_laysChoices_l69 Φ _ (m + 1) s _ _
      rw [w_X0_laysChoices_l69, y8, le_of (by omega) (by omega)]
      refine ⟨fun h => absurd h (by omega), fun _ => ?_⟩
      refine loop_up (α := St × Int32) (L := fun m' a => w_X0_laysChoices_l79 Φ (fun (s23 : St) (x1 : Int32) (x2 : Int32) => w_X0_laysChoices_b184 Φ (w_X0_laysChoices_l69 Φ (fun (s24 : St) => w_X0_laysChoices_b190 Φ s24) m) s23 x1 x2) m' a.1 (Int32.ofNat p) (Int32.ofNat i) a.2) N (fun j a => a.2 = Int32.ofNat j ∧ Fr wTb 0 0 st a.1 ∧ sI a.1 0 8 = Int32.ofNat (hK K M) ∧ sI a.1 0 9 = Int32.ofNat N ∧ (∀ r c, r < i → c < N → sL a.1 (96 + r) c = chT K G M p (gmF st) r c) ∧ ∀ c, c < j → sL a.1 (96 + i) c = chT K G M p (gmF st) i c) (fun m' j a hj hB k8 => ?_) (fun m' a hB => ?_) gFU 0 (s, 0) (by omega) (gFU_big (by omega)) ⟨rfl, F, y8, y9, v, fun c hc => absurd hc (by omega)⟩
      · obtain ⟨s', y⟩ := a
        obtain ⟨e, F', z8, z9, v', u'⟩ := hB
        dsimp only at e F' z8 z9 v' u'
        subst e
        show w_X0_laysChoices_l79 Φ _ (m' + 1) s' _ _ _
        have uu : ∀ a j, 1 ≤ a → a < 96 → sI s' a j = sI st a j := fun a j h1 h2 => (fr_at F' (Or.inl (by omega)) (by unfold wTb; omega)).1
        rw [w_X0_laysChoices_l79, z9, le_of (by omega) (by omega)]
        refine ⟨fun h => absurd h (by omega), fun _ => ?_⟩
        refine loop_up (α := Int32 × Int64 × Int32) (L := fun m9 a => w_X0_laysChoices_l96 Φ (fun (s18 : St) (x1 : Int32) (x2 : Int32) (x3 : Int32) (x5 : Int64) => w_X0_laysChoices_b168 Φ (w_X0_laysChoices_l79 Φ (fun (s23 : St) (x1 : Int32) (x2 : Int32) => w_X0_laysChoices_b184 Φ (w_X0_laysChoices_l69 Φ (fun (s24 : St) => w_X0_laysChoices_b190 Φ s24) m) s23 x1 x2) m') s18 x1 x2 x3 x5) m9 s' (Int32.ofNat p) (Int32.ofNat i) (Int32.ofNat j) a.1 a.2.1 a.2.2) K (fun k a => a = (Int32.ofNat (i / M ^ k), cvL G K M p i j (gmF st) k, Int32.ofNat k)) (fun m9 k a hk hC k7 => ?_) (fun m9 a hC => ?_) gFU 0 (Int32.ofNat i, 0, 0) (by omega) (gFU_big (by omega)) (by rw [Nat.pow_zero, Nat.div_one]; rfl)
        · subst hC
          show w_X0_laysChoices_l96 Φ _ (m9 + 1) s' _ _ _ _ _ _
          dsimp only
          have hr27 : i / M ^ k < 27 := Nat.lt_of_le_of_lt (Nat.div_le_self _ _) (by omega)
          have hmd : i / M ^ k % M < 3 := by have := Nat.mod_lt (i / M ^ k) (show M > 0 by omega); omega
          obtain ⟨d1, d2⟩ := dv27 (i / M ^ k) hr27 M (by omega) q3.1
          rw [w_X0_laysChoices_l96, (uu 2 0 (by omega) (by omega)).trans q9, (uu 2 2 (by omega) (by omega)).trans q11, le_of (by omega) (by omega), d1, d2, vp_of (by omega), vp_of (by omega), vp_of (by omega), vp_of (by omega), nn_of (by omega), nn_of (by omega), nn_of (by omega), nn_of (by omega), (uu _ k (by omega) (by omega)).trans (q14 p k hp (by omega)), (uu _ j (by omega) (by omega)).trans (q15 k _ j (by omega) hmd (by omega))]
          refine ⟨fun h => absurd h (by omega), fun _ => ⟨by omega, by omega, nz_of q3.1 (by omega), hmd, by omega, ?_⟩⟩
          rintro _ rfl _ rfl
          have hk7 := k7 (Int32.ofNat (i / M ^ k / M), cvL G K M p i j (gmF st) (k + 1), Int32.ofNat k + 1)
          dsimp only at hk7
          exact hk7 (by rw [dg_s, succ_of])
        · subst hC
          show w_X0_laysChoices_l96 Φ _ (m9 + 1) s' _ _ _ _ _ _
          dsimp only
          rw [w_X0_laysChoices_l96, (uu 2 0 (by omega) (by omega)).trans q9]
          refine ⟨fun _ => ?_, fun h => absurd (Int32.le_refl _) h⟩
          unfold w_X0_laysChoices_b168
          rw [vp_of (by omega), vp_of (by omega), nn_of (by omega), nn_of (by omega), cvB i j (by omega)]
          refine ⟨by omega, by omega, ?_⟩
          intro s9 hs9
          refine k8 (s9, _) ?_
          dsimp only
          subst hs9
          refine ⟨succ_of j, Fr_L F' (Or.inl (Or.inr ⟨by omega, by omega, by omega⟩)), by rw [gI_pL]; exact z8, by rw [gI_pL]; exact z9, fun r c hr hc => by rw [gL_pL, if_neg (by omega)]; exact v' r c hr hc, fun c hc => ?_⟩
          rw [gL_pL]
          by_cases e : c = j
          · subst e; rw [if_pos ⟨rfl, rfl⟩]
          · rw [if_neg (by omega)]; exact u' c (by omega)
      · obtain ⟨s', y⟩ := a
        obtain ⟨e, F', z8, z9, v', u'⟩ := hB
        dsimp only at e F' z8 z9 v' u'
        subst e
        show w_X0_laysChoices_l79 Φ _ (m' + 1) s' _ _ _
        rw [w_X0_laysChoices_l79, z9]
        refine ⟨fun _ => ?_, fun h => absurd (Int32.le_refl _) h⟩
        unfold w_X0_laysChoices_b184
        refine k9 (s', _) ?_
        dsimp only
        refine ⟨succ_of i, F', z8, z9, fun r c hr hc => ?_⟩
        by_cases e : r = i
        · rw [e]; exact u' c hc
        · exact v' r c (by omega) hc
    · obtain ⟨s, x⟩ := a
      obtain ⟨e, F, y8, y9, v⟩ := hA
      dsimp only at e F y8 y9 v
      subst e
      show w_X0_laysChoices_l69 Φ _ (m + 1) s _ _
      rw [w_X0_laysChoices_l69, y8]
      refine ⟨fun _ => ?_, fun h => absurd (Int32.le_refl _) h⟩
      unfold w_X0_laysChoices_b190
      exact h s F ⟨y8, y9, v⟩
  unfold w_X0_laysChoices
  rw [q9, q11, mul_of, mul_of]
  rcases q1 with rfl | rfl
  · exact ⟨fun h => absurd rfl h, fun _ => go⟩
  · exact ⟨fun _ => go, fun h => absurd h (by decide)⟩
theorem s_once_lay {st : St} {K G M N p : Nat} {Φ : St → Prop} (hN : 201 ≤ sN st) (hs : Hs st K G M N) (hp : p < ptN K G) (h : ∀ s, Fr wTm 0 0 st s → Tm s (chT K G M p (gmF st)) (hK K M) N → w_X4_kernel s (fun (s40 : St) => w_X4_byParts s40 (fun (s48 : St) => Φ s48))) : w_X4_once_2 st (Int32.ofNat p) Φ := by
  obtain ⟨q1, q2, q3, q4, q5, q6, q7, q8, q9, q10, q11, q12, q13, q14, q15, q16⟩ := hs
  have hp15 := pt15 q1 q2
  have hb := hK_b (K := K) q3
  have go : ∀ z0 z1 : Nat, z1 * z0 = hK K M → w_X4_once_2_b33 Φ st (Int32.ofNat p) (Int32.ofNat z0) (Int32.ofNat z1) := fun z0 z1 hz => by
    unfold w_X4_once_2_b33
    intro v2 e2
    rw [mul_of, hz] at e2
    subst e2
    rintro _ rfl _ rfl
    have e23 : sI (putI st 175 22 (Int32.ofNat (hK K M))) 177 3 = Int32.ofNat N := by rw [gI_pI, if_neg (by omega)]; exact q8
    rw [e23]
    have f0 : Fr wTm 0 0 st (putI (putI st 175 22 (Int32.ofNat (hK K M))) 175 23 (Int32.ofNat N)) := Fr_I (Fr_I Fr_rf (Or.inl (Or.inl ⟨rfl, Or.inl rfl⟩))) (Or.inl (Or.inl ⟨rfl, Or.inr rfl⟩))
    have x8 : sI (putI (putI st 175 22 (Int32.ofNat (hK K M))) 175 23 (Int32.ofNat N)) 175 22 = Int32.ofNat (hK K M) := by rw [gI_pI, if_neg (by omega), gI_pI, if_pos ⟨rfl, rfl⟩]
    have x9 : sI (putI (putI st 175 22 (Int32.ofNat (hK K M))) 175 23 (Int32.ofNat N)) 175 23 = Int32.ofNat N := by rw [gI_pI, if_pos ⟨rfl, rfl⟩]
    generalize putI (putI st 175 22 (Int32.ofNat (hK K M))) 175 23 (Int32.ofNat N) = s0 at f0 x8 x9
    have zz : ∀ {s}, Fr wTm 0 0 st s → ∀ j, sI s 177 j = sI st 177 j := fun {s} F j => (fr_at F (Or.inl (by omega)) (by unfold wTm; omega)).1
    refine loop_up (α := St × Int32) (L := fun m a => w_X4_once_2_l52 Φ (fun (s38 : St) => w_X4_once_2_b168 Φ s38) m a.1 (Int32.ofNat p) (Int32.ofNat (hK K M)) a.2) (hK K M) (fun i a => a.2 = Int32.ofNat i ∧ Fr wTm 0 0 st a.1 ∧ sI a.1 175 22 = Int32.ofNat (hK K M) ∧ sI a.1 175 23 = Int32.ofNat N ∧ ∀ r c, r < i → c < N → sL a.1 188 (3 * r + c) = chT K G M p (gmF st) r c) (fun m i a hi hA k9 => ?_) (fun m a hA => ?_) gFU 0 (s0, 0) (by omega) (gFU_big (by omega)) ⟨rfl, f0, x8, x9, fun r c hr => absurd hr (by omega)⟩
    · obtain ⟨s, x⟩ := a
      obtain ⟨e, F, y8, y9, v⟩ := hA
      dsimp only at e F y8 y9 v
      subst e
      show w_X4_once_2_l52 Φ _ (m + 1) s _ _ _
      rw [w_X4_once_2_l52, le_of (by omega) (by omega)]
      refine ⟨fun h => absurd h (by omega), fun _ => ?_⟩
      refine loop_up (α := St × Int32) (L := fun m' a => w_X4_once_2_l60 Φ (fun (s37 : St) (x1 : Int32) (x2 : Int32) (x3 : Int32) => w_X4_once_2_b162 Φ (w_X4_once_2_l52 Φ (fun (s38 : St) => w_X4_once_2_b168 Φ s38) m) s37 x1 x2 x3) m' a.1 (Int32.ofNat p) (Int32.ofNat (hK K M)) (Int32.ofNat i) a.2) N (fun j a => a.2 = Int32.ofNat j ∧ Fr wTm 0 0 st a.1 ∧ sI a.1 175 22 = Int32.ofNat (hK K M) ∧ sI a.1 175 23 = Int32.ofNat N ∧ (∀ r c, r < i → c < N → sL a.1 188 (3 * r + c) = chT K G M p (gmF st) r c) ∧ ∀ c, c < j → sL a.1 188 (3 * i + c) = chT K G M p (gmF st) i c) (fun m' j a hj hB k8 => ?_) (fun m' a hB => ?_) gFU 0 (s, 0) (by omega) (gFU_big (by omega)) ⟨rfl, F, y8, y9, v, fun c hc => absurd hc (by omega)⟩
      · obtain ⟨s', y⟩ := a
        obtain ⟨e, F', z8, z9, v', u'⟩ := hB
        dsimp only at e F' z8 z9 v' u'
        subst e
        show w_X4_once_2_l60 Φ _ (m' + 1) s' _ _ _ _
        rw [w_X4_once_2_l60, zz F' 3, q8, le_of (by omega) (by omega)]
        refine ⟨fun h => absurd h (by omega), fun _ => ?_⟩
        refine loop_up (α := Int32 × Int32 × Int32) (L := fun m9 a => w_X4_once_2_l80 Φ (fun (s33 : St) (x1 : Int32) (x2 : Int32) (x3 : Int32) (x4 : Int32) (x6 : Int32) => w_X4_once_2_b142 Φ (w_X4_once_2_l60 Φ (fun (s37 : St) (x1 : Int32) (x2 : Int32) (x3 : Int32) => w_X4_once_2_b162 Φ (w_X4_once_2_l52 Φ (fun (s38 : St) => w_X4_once_2_b168 Φ s38) m) s37 x1 x2 x3) m') s33 x1 x2 x3 x4 x6) m9 s' (Int32.ofNat p) (Int32.ofNat (hK K M)) (Int32.ofNat i) (Int32.ofNat j) a.1 a.2.1 a.2.2) K (fun k a => a = (Int32.ofNat (i / M ^ k), cvI G K M p i j (gmF st) k, Int32.ofNat k)) (fun m9 k a hk hC k7 => ?_) (fun m9 a hC => ?_) gFU 0 (Int32.ofNat i, 0, 0) (by omega) (gFU_big (by omega)) (by rw [Nat.pow_zero, Nat.div_one]; rfl)
        · subst hC
          show w_X4_once_2_l80 Φ _ (m9 + 1) s' _ _ _ _ _ _ _
          dsimp only
          have hr27 : i / M ^ k < 27 := Nat.lt_of_le_of_lt (Nat.div_le_self _ _) (by omega)
          have hmd : i / M ^ k % M < 3 := by have := Nat.mod_lt (i / M ^ k) (show M > 0 by omega); omega
          obtain ⟨d1, d2⟩ := dv27 (i / M ^ k) hr27 M (by omega) q3.1
          rw [w_X4_once_2_l80, zz F' 0, q5, le_of (by omega) (by omega), zz F' 2, q7, d1, d2]
          refine ⟨fun h => absurd h (by omega), fun _ => s_X4_gives q1 q2 ((zz F' 0).trans q5) ((zz F' 1).trans q6) hp hk ?_⟩
          rw [pe_X4_place (by omega) hmd (by omega), vp_of (by omega), nn_of (by omega), zz F' _]
          refine ⟨nz_of q3.1 (by omega), by omega, ?_⟩
          rintro _ rfl _ rfl
          have hk7 := k7 (Int32.ofNat (i / M ^ k / M), cvI G K M p i j (gmF st) (k + 1), Int32.ofNat k + 1)
          dsimp only at hk7
          exact hk7 (by rw [dg_s, succ_of])
        · subst hC
          show w_X4_once_2_l80 Φ _ (m9 + 1) s' _ _ _ _ _ _ _
          dsimp only
          rw [w_X4_once_2_l80, zz F' 0, q5]
          refine ⟨fun _ => ?_, fun h => absurd (Int32.le_refl _) h⟩
          unfold w_X4_once_2_b142
          have e : 3 * Int32.ofNat i + Int32.ofNat j = Int32.ofNat (3 * i + j) := by simp only [Int32.ofNat_add, Int32.ofNat_mul]; rfl
          rw [e, vp_of (by omega), nn_of (by omega)]
          refine ⟨by omega, ?_⟩
          intro s9 hs9
          refine k8 (s9, _) ?_
          dsimp only
          subst hs9
          refine ⟨succ_of j, Fr_L F' (Or.inl (Or.inr ⟨rfl, by omega⟩)), by rw [gI_pL]; exact z8, by rw [gI_pL]; exact z9, fun r c hr hc => by rw [gL_pL, if_neg (by omega)]; exact v' r c hr hc, fun c hc => ?_⟩
          rw [gL_pL]
          by_cases e : c = j
          · subst e; rw [if_pos ⟨rfl, rfl⟩]; rfl
          · rw [if_neg (by omega)]; exact u' c (by omega)
      · obtain ⟨s', y⟩ := a
        obtain ⟨e, F', z8, z9, v', u'⟩ := hB
        dsimp only at e F' z8 z9 v' u'
        subst e
        show w_X4_once_2_l60 Φ _ (m' + 1) s' _ _ _ _
        rw [w_X4_once_2_l60, zz F' 3, q8]
        refine ⟨fun _ => ?_, fun h => absurd (Int32.le_refl _) h⟩
        unfold w_X4_once_2_b162
        refine k9 (s', _) ?_
        dsimp only
        refine ⟨succ_of i, F', z8, z9, fun r c hr hc => ?_⟩
        by_cases e : r = i
        · rw [e]; exact u' c hc
        · exact v' r c (by omega) hc
    · obtain ⟨s, x⟩ := a
      obtain ⟨e, F, y8, y9, v⟩ := hA
      dsimp only at e F y8 y9 v
      subst e
      show w_X4_once_2_l52 Φ _ (m + 1) s _ _ _
      rw [w_X4_once_2_l52]
      refine ⟨fun _ => ?_, fun h => absurd (Int32.le_refl _) h⟩
      unfold w_X4_once_2_b168
      exact h s F ⟨y8, y9, v⟩
  unfold w_X4_once_2
  rw [q5, q7, mul_of]
  rcases q1 with rfl | rfl
  · exact ⟨fun _ => go 1 (M * M) (by unfold hK; rw [if_pos rfl, Nat.mul_one]), fun h => absurd h (by decide)⟩
  · exact ⟨fun h => absurd rfl h, fun _ => go M (M * M) (by unfold hK; rw [if_neg (by omega)])⟩
theorem ch_bd {st : St} {K G M N p : Nat} (h : Hs st K G M N) (hp : p < ptN K G) : ∀ r c, r < hK K M → c < N → bd (chT K G M p (gmF st) r c).toInt := fun r c hr hc => by
  obtain ⟨q1, q2, q3, q4, q5, q6, q7, q8, q9, q10, q11, q12, q13, q14, q15, q16⟩ := h
  have h9 := (cv_ok (K := K) (G := G) (M := M) (p := p) (r := r) (c := c) (f := gmF st) q3 K (by omega) (fun k hk => ⟨pt4 q1 q2 hp (by omega), fun d hd => q16 k d c (by omega) hd (by omega)⟩)).1
  unfold chT bd
  rw [Int32.toInt_toInt64]
  omega
theorem e_once {st : St} {p1 p2 : Int32} {Φ : St → Int64 → Prop} (h : w_X0_once_b23 Φ st p1 p2 (ib (inB p1.toInt64 0 ((sI st 2 9) - 1).toInt64 && inB p2.toInt64 0 1))) : w_X0_once st p1 p2 Φ := by
  unfold w_X0_once w_X0_once_b22
  simp only [pe_X1_isPoint, pe_X0_isPart, ib_z]
  revert h
  cases inB p1.toInt64 0 ((sI st 2 9) - 1).toInt64 <;> cases inB p2.toInt64 0 1 <;> simp [ib]
/-- the reference's fraction by the parts -/
theorem m_byParts {s : St} {T : Nat → Nat → Int64} {n G : Nat} {I J : Nat → Nat} {c : Bool} {Φ : St → Prop} (hG : 1 ≤ G ∧ G ≤ 4) (hN : 201 ≤ sN s) (hc : sI s 175 20 = ib c) (eG : sI s 177 1 = Int32.ofNat G) (v29 : sL s 175 29 = kTot T n I J) (v30 : sL s 175 30 = kWo T n I J) (t1 : 1 ≤ (kTot T n I J).toInt) (t2 : (kTot T n I J).toInt ≤ 3303478080000) (t3 : (kWo T n I J).toInt.natAbs ≤ 471736669824000000) (h : ∀ s', Fr wR 0 0 s s' → sI s' 175 20 = ib c → (c = false → (sL s' 175 18, sL s' 175 19) = lowR (kWo T n I J) (kTot T n I J * (Int32.ofNat G).toInt64)) → Φ s') : w_X4_byParts s Φ := by
  unfold w_X4_byParts
  rw [v30, v29]
  refine s_lowest hc (fun _ => by omega) (fun s3 f3 c3 l3 => ?_)
  have eG3 : sI s3 177 1 = Int32.ofNat G := (fr_at f3 (Or.inl (by omega)) (by unfold wR; omega)).1.trans eG
  rw [eG3]
  have hTp : 0 < (kTot T n I J).toInt := by omega
  refine s_X4_by (x := (sL s3 175 18, sL s3 175 19)) (y := ((Int32.ofNat G).toInt64, 1)) c3 (fun e => by rw [l3 e]; exact (low_pos hTp).1) (fun e => by show ((Int32.ofNat G).toInt64).toInt ≠ 0; rw [t64n (by omega)]; omega) (fun s4 ⟨f4, c4, l4⟩ => ?_)
  have hby : c = false → byR (sL s3 175 18, sL s3 175 19) ((Int32.ofNat G).toInt64, 1) = some (lowR (kWo T n I J) (kTot T n I J * (Int32.ofNat G).toInt64)) := fun e => by
    rw [l3 e, byR_low hG t1 t2 t3]
  refine h s4 (Fr_tr (x := 0) (y := 0) f3 f4) ?_ (fun e => l4 e _ (hby e))
  rw [c4]
  cases c with
  | true => rfl
  | false => rw [hby rfl]; rfl
