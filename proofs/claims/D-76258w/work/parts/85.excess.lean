/-! PLAIN LAW, 46: tables of what is above the targets -/
set_option maxRecDepth 100000
def exT (K : Nat) (e : Nat → Int32) (f : Nat → Nat → Nat → Int32) (r c : Nat) : Int64 := smL (fun k => (e k).toInt64 * (f k r c).toInt64) K
def exX (st : St) (k : Nat) : Int32 := exV (sI st 147 k - sI st 0 44 * sI st (2 + 14) k)
def exM (st : St) (k : Nat) : Int32 := exV (sI st 180 k - sI st 175 6 * sI st 177 (32 + k))
theorem s_laysExcess {st : St} {K G M N : Nat} {Φ : St → Prop} (hN : 201 ≤ sN st) (hs : Hs st K G M N) (h : ∀ s, Fr wTb 0 0 st s → Tb s (exT K (exX st) (gmF st)) M N → Φ s) : w_X0_laysExcess st Φ := by
  obtain ⟨q1, q2, q3, q4, q5, q6, q7, q8, q9, q10, q11, q12, q13, q14, q15, q16⟩ := hs
  unfold w_X0_laysExcess
  rintro _ rfl _ rfl
  have e23 : sI (putI st 0 8 (sI st 2 2)) 2 3 = Int32.ofNat N := by rw [gI_pI, if_neg (by omega)]; exact q12
  rw [e23, q11]
  have f0 : Fr wTb 0 0 st (putI (putI st 0 8 (Int32.ofNat M)) 0 9 (Int32.ofNat N)) := Fr_I (Fr_I Fr_rf (Or.inl (Or.inl ⟨rfl, Or.inl rfl⟩))) (Or.inl (Or.inl ⟨rfl, Or.inr rfl⟩))
  have x8 : sI (putI (putI st 0 8 (Int32.ofNat M)) 0 9 (Int32.ofNat N)) 0 8 = Int32.ofNat M := by rw [gI_pI, if_neg (by omega), gI_pI, if_pos ⟨rfl, rfl⟩]
  have x9 : sI (putI (putI st 0 8 (Int32.ofNat M)) 0 9 (Int32.ofNat N)) 0 9 = Int32.ofNat N := by rw [gI_pI, if_pos ⟨rfl, rfl⟩]
  generalize putI (putI st 0 8 (Int32.ofNat M)) 0 9 (Int32.ofNat N) = s0 at f0 x8 x9
  refine loop_up (α := St × Int32) (L := fun m a => w_X0_laysExcess_l24 Φ (fun (s27 : St) => w_X0_laysExcess_b112 Φ s27) m a.1 a.2) M (fun i a => a.2 = Int32.ofNat i ∧ Fr wTb 0 0 st a.1 ∧ sI a.1 0 8 = Int32.ofNat M ∧ sI a.1 0 9 = Int32.ofNat N ∧ ∀ r c, r < i → c < N → sL a.1 (96 + r) c = exT K (exX st) (gmF st) r c) (fun m i a hi hA k9 => ?_) (fun m a hA => ?_) gFU 0 (s0, 0) (by omega) (gFU_big (by omega)) ⟨rfl, f0, x8, x9, fun r c hr => absurd hr (by omega)⟩
  · obtain ⟨s, x⟩ := a
    obtain ⟨e, F, y8, y9, v⟩ := hA
    dsimp only at e F y8 y9 v
    subst e
    show w_X0_laysExcess_l24 Φ _ (m + 1) s _
    rw [w_X0_laysExcess_l24, y8, le_of (by omega) (by omega)]
    refine ⟨fun h => absurd h (by omega), fun _ => ?_⟩
    refine loop_up (α := St × Int32) (L := fun m' a => w_X0_laysExcess_l34 Φ (fun (s26 : St) (x1 : Int32) => w_X0_laysExcess_b106 Φ (w_X0_laysExcess_l24 Φ (fun (s27 : St) => w_X0_laysExcess_b112 Φ s27) m) s26 x1) m' a.1 (Int32.ofNat i) a.2) N (fun j a => a.2 = Int32.ofNat j ∧ Fr wTb 0 0 st a.1 ∧ sI a.1 0 8 = Int32.ofNat M ∧ sI a.1 0 9 = Int32.ofNat N ∧ (∀ r c, r < i → c < N → sL a.1 (96 + r) c = exT K (exX st) (gmF st) r c) ∧ ∀ c, c < j → sL a.1 (96 + i) c = exT K (exX st) (gmF st) i c) (fun m' j a hj hB k8 => ?_) (fun m' a hB => ?_) gFU 0 (s, 0) (by omega) (gFU_big (by omega)) ⟨rfl, F, y8, y9, v, fun c hc => absurd hc (by omega)⟩
    · obtain ⟨s', y⟩ := a
      obtain ⟨e, F', z8, z9, v', u'⟩ := hB
      dsimp only at e F' z8 z9 v' u'
      subst e
      show w_X0_laysExcess_l34 Φ _ (m' + 1) s' _ _
      have uu : ∀ a j, (1 ≤ a ∧ a < 96) ∨ (a = 0 ∧ j = 44) ∨ a = 147 → sI s' a j = sI st a j := fun a j h1 => (fr_at F' (Or.inl (by omega)) (by unfold wTb; omega)).1
      rw [w_X0_laysExcess_l34, z9, le_of (by omega) (by omega)]
      refine ⟨fun h => absurd h (by omega), fun _ => ?_⟩
      refine loop_up (α := Int64 × Int32) (L := fun m9 a => w_X0_laysExcess_l47 Φ (fun (s21 : St) (x1 : Int32) (x2 : Int32) (x3 : Int64) => w_X0_laysExcess_b91 Φ (w_X0_laysExcess_l34 Φ (fun (s26 : St) (x1 : Int32) => w_X0_laysExcess_b106 Φ (w_X0_laysExcess_l24 Φ (fun (s27 : St) => w_X0_laysExcess_b112 Φ s27) m) s26 x1) m') s21 x1 x2 x3) m9 s' (Int32.ofNat i) (Int32.ofNat j) a.1 a.2) K (fun k a => a = (smL (fun k => (exX st k).toInt64 * (gmF st k i j).toInt64) k, Int32.ofNat k)) (fun m9 k a hk hC k7 => ?_) (fun m9 a hC => ?_) gFU 0 (0, 0) (by omega) (gFU_big (by omega)) rfl
      · subst hC
        show w_X0_laysExcess_l47 Φ _ (m9 + 1) s' _ _ _ _
        dsimp only
        have e20 := (uu 2 0 (by omega)).trans q9
        rw [w_X0_laysExcess_l47, e20, le_of (by omega) (by omega), pe_excess (by omega) (by omega) e20, if_neg (by omega), vp_of (by omega), vp_of (by omega), vp_of (by omega), nn_of (by omega), nn_of (by omega), nn_of (by omega), uu 147 k (by omega), uu 0 44 (by omega), uu (2 + 14) k (by omega), (uu _ j (by omega)).trans (q15 k i j (by omega) (by omega) (by omega))]
        refine ⟨fun h => absurd h (by omega), fun _ => ⟨by omega, by omega, by omega, ?_⟩⟩
        rintro _ rfl
        have hk7 := k7 (smL (fun k => (exX st k).toInt64 * (gmF st k i j).toInt64) (k + 1), Int32.ofNat k + 1)
        dsimp only at hk7
        exact hk7 (by rw [succ_of])
      · subst hC
        show w_X0_laysExcess_l47 Φ _ (m9 + 1) s' _ _ _ _
        dsimp only
        rw [w_X0_laysExcess_l47, (uu 2 0 (by omega)).trans q9]
        refine ⟨fun _ => ?_, fun h => absurd (Int32.le_refl _) h⟩
        unfold w_X0_laysExcess_b91
        rw [vp_of (by omega), vp_of (by omega), nn_of (by omega), nn_of (by omega)]
        refine ⟨by omega, by omega, ?_⟩
        intro s9 hs9
        refine k8 (s9, _) ?_
        dsimp only
        subst hs9
        refine ⟨succ_of j, Fr_L F' (Or.inl (Or.inr ⟨by omega, by omega, by omega⟩)), by rw [gI_pL]; exact z8, by rw [gI_pL]; exact z9, fun r c hr hc => by rw [gL_pL, if_neg (by omega)]; exact v' r c hr hc, fun c hc => ?_⟩
        rw [gL_pL]
        by_cases e : c = j
        · subst e; rw [if_pos ⟨rfl, rfl⟩]; rfl
        · rw [if_neg (by omega)]; exact u' c (by omega)
    · obtain ⟨s', y⟩ := a
      obtain ⟨e, F', z8, z9, v', u'⟩ := hB
      dsimp only at e F' z8 z9 v' u'
      subst e
      show w_X0_laysExcess_l34 Φ _ (m' + 1) s' _ _
      rw [w_X0_laysExcess_l34, z9]
      refine ⟨fun _ => ?_, fun h => absurd (Int32.le_refl _) h⟩
      unfold w_X0_laysExcess_b106
      refine k9 (s', _) ?_
      dsimp only
      refine ⟨succ_of i, F', z8, z9, fun r c hr hc => ?_⟩
      by_cases e : r = i
      · rw [e]; exact u' c hc
      · exact v' r c (by omega) hc
  · obtain ⟨s, x⟩ := a
    obtain ⟨e, F, y8, y9, v⟩ := hA
    dsimp only at e F y8 y9 v
    subst e
    show w_X0_laysExcess_l24 Φ _ (m + 1) s _
    rw [w_X0_laysExcess_l24, y8]
    refine ⟨fun _ => ?_, fun h => absurd (Int32.le_refl _) h⟩
    unfold w_X0_laysExcess_b112
    exact h s F ⟨y8, y9, v⟩
theorem s_answer_lay {st : St} {K G M N : Nat} {Φ : St → Int32 → Prop} (hN : 201 ≤ sN st) (hs : Hs st K G M N) (h : ∀ s, Fr wTm 0 0 st s → Tm s (exT K (exM st) (gmF st)) M N → w_X4_answer_b122 Φ s) : ∀ s10, s10 = putI st 175 22 (sI st 177 2) → ∀ s12, s12 = putI s10 175 23 (sI s10 177 3) → w_X4_answer_l31 Φ (fun (s41 : St) => w_X4_answer_b122 Φ s41) gFU s12 0 := by
  obtain ⟨q1, q2, q3, q4, q5, q6, q7, q8, q9, q10, q11, q12, q13, q14, q15, q16⟩ := hs
  rintro _ rfl _ rfl
  have e23 : sI (putI st 175 22 (sI st 177 2)) 177 3 = Int32.ofNat N := by rw [gI_pI, if_neg (by omega)]; exact q8
  rw [e23, q7]
  have f0 : Fr wTm 0 0 st (putI (putI st 175 22 (Int32.ofNat M)) 175 23 (Int32.ofNat N)) := Fr_I (Fr_I Fr_rf (Or.inl (Or.inl ⟨rfl, Or.inl rfl⟩))) (Or.inl (Or.inl ⟨rfl, Or.inr rfl⟩))
  have x8 : sI (putI (putI st 175 22 (Int32.ofNat M)) 175 23 (Int32.ofNat N)) 175 22 = Int32.ofNat M := by rw [gI_pI, if_neg (by omega), gI_pI, if_pos ⟨rfl, rfl⟩]
  have x9 : sI (putI (putI st 175 22 (Int32.ofNat M)) 175 23 (Int32.ofNat N)) 175 23 = Int32.ofNat N := by rw [gI_pI, if_pos ⟨rfl, rfl⟩]
  generalize putI (putI st 175 22 (Int32.ofNat M)) 175 23 (Int32.ofNat N) = s0 at f0 x8 x9
  have zz : ∀ {s}, Fr wTm 0 0 st s → ∀ a j, a = 177 ∨ a = 180 ∨ (a = 175 ∧ j = 6) → sI s a j = sI st a j := fun {s} F a j ha => (fr_at F (Or.inl (by omega)) (by unfold wTm; omega)).1
  refine loop_up (α := St × Int32) (L := fun m a => w_X4_answer_l31 Φ (fun (s41 : St) => w_X4_answer_b122 Φ s41) m a.1 a.2) M (fun i a => a.2 = Int32.ofNat i ∧ Fr wTm 0 0 st a.1 ∧ sI a.1 175 22 = Int32.ofNat M ∧ sI a.1 175 23 = Int32.ofNat N ∧ ∀ r c, r < i → c < N → sL a.1 188 (3 * r + c) = exT K (exM st) (gmF st) r c) (fun m i a hi hA k9 => ?_) (fun m a hA => ?_) gFU 0 (s0, 0) (by omega) (gFU_big (by omega)) ⟨rfl, f0, x8, x9, fun r c hr => absurd hr (by omega)⟩
  · obtain ⟨s, x⟩ := a
    obtain ⟨e, F, y8, y9, v⟩ := hA
    dsimp only at e F y8 y9 v
    subst e
    show w_X4_answer_l31 Φ _ (m + 1) s _
    rw [w_X4_answer_l31, zz F 177 2 (by omega), q7, le_of (by omega) (by omega)]
    refine ⟨fun h => absurd h (by omega), fun _ => ?_⟩
    refine loop_up (α := St × Int32) (L := fun m' a => w_X4_answer_l43 Φ (fun (s40 : St) (x1 : Int32) => w_X4_answer_b116 Φ (w_X4_answer_l31 Φ (fun (s41 : St) => w_X4_answer_b122 Φ s41) m) s40 x1) m' a.1 (Int32.ofNat i) a.2) N (fun j a => a.2 = Int32.ofNat j ∧ Fr wTm 0 0 st a.1 ∧ sI a.1 175 22 = Int32.ofNat M ∧ sI a.1 175 23 = Int32.ofNat N ∧ (∀ r c, r < i → c < N → sL a.1 188 (3 * r + c) = exT K (exM st) (gmF st) r c) ∧ ∀ c, c < j → sL a.1 188 (3 * i + c) = exT K (exM st) (gmF st) i c) (fun m' j a hj hB k8 => ?_) (fun m' a hB => ?_) gFU 0 (s, 0) (by omega) (gFU_big (by omega)) ⟨rfl, F, y8, y9, v, fun c hc => absurd hc (by omega)⟩
    · obtain ⟨s', y⟩ := a
      obtain ⟨e, F', z8, z9, v', u'⟩ := hB
      dsimp only at e F' z8 z9 v' u'
      subst e
      show w_X4_answer_l43 Φ _ (m' + 1) s' _ _
      rw [w_X4_answer_l43, zz F' 177 3 (by omega), q8, le_of (by omega) (by omega)]
      refine ⟨fun h => absurd h (by omega), fun _ => ?_⟩
      refine loop_up (α := Int64 × Int32) (L := fun m9 a => w_X4_answer_l58 Φ (fun (s36 : St) (x1 : Int32) (x2 : Int32) (x3 : Int64) => w_X4_answer_b99 Φ (w_X4_answer_l43 Φ (fun (s40 : St) (x1 : Int32) => w_X4_answer_b116 Φ (w_X4_answer_l31 Φ (fun (s41 : St) => w_X4_answer_b122 Φ s41) m) s40 x1) m') s36 x1 x2 x3) m9 s' (Int32.ofNat i) (Int32.ofNat j) a.1 a.2) K (fun k a => a = (smL (fun k => (exM st k).toInt64 * (gmF st k i j).toInt64) k, Int32.ofNat k)) (fun m9 k a hk hC k7 => ?_) (fun m9 a hC => ?_) gFU 0 (0, 0) (by omega) (gFU_big (by omega)) rfl
      · subst hC
        show w_X4_answer_l58 Φ _ (m9 + 1) s' _ _ _ _
        dsimp only
        rw [w_X4_answer_l58, zz F' 177 0 (by omega), q5, le_of (by omega) (by omega), pe_above (by omega), pe_X4_place (by omega) (by omega) (by omega), vp_of (by omega), nn_of (by omega), zz F' 180 k (by omega), zz F' 175 6 (by omega), zz F' 177 (32 + k) (by omega), zz F' 177 _ (by omega)]
        refine ⟨fun h => absurd h (by omega), fun _ => ⟨by omega, ?_⟩⟩
        rintro _ rfl
        have hk7 := k7 (smL (fun k => (exM st k).toInt64 * (gmF st k i j).toInt64) (k + 1), Int32.ofNat k + 1)
        dsimp only at hk7
        exact hk7 (by rw [succ_of])
      · subst hC
        show w_X4_answer_l58 Φ _ (m9 + 1) s' _ _ _ _
        dsimp only
        rw [w_X4_answer_l58, zz F' 177 0 (by omega), q5]
        refine ⟨fun _ => ?_, fun h => absurd (Int32.le_refl _) h⟩
        unfold w_X4_answer_b99
        have e : 3 * Int32.ofNat i + Int32.ofNat j = Int32.ofNat (3 * i + j) := by simp only [Int32.ofNat_add, Int32.ofNat_mul]; rfl
        rw [e, vp_of (by omega), nn_of (by omega)]
        refine ⟨by omega, ?_⟩
        intro s9 hs9
        refine k8 (s9, _) ?_
        dsimp only
        subst hs9
        refine ⟨succ_of j, Fr_L F' (Or.inl (Or.inr ⟨rfl, by omega⟩)), by rw [gI_pL]; exact z8, by rw [gI_pL]; exact z9, fun r c hr hc => by rw [gL_pL, if_neg (by omega)]; exact v' r c hr hc, fun c hc => ?_⟩
        rw [gL_pL]
        by_cases e : c = j
        · subst e; rw [if_pos ⟨rfl, rfl⟩]; rfl
        · rw [if_neg (by omega)]; exact u' c (by omega)
    · obtain ⟨s', y⟩ := a
      obtain ⟨e, F', z8, z9, v', u'⟩ := hB
      dsimp only at e F' z8 z9 v' u'
      subst e
      show w_X4_answer_l43 Φ _ (m' + 1) s' _ _
      rw [w_X4_answer_l43, zz F' 177 3 (by omega), q8]
      refine ⟨fun _ => ?_, fun h => absurd (Int32.le_refl _) h⟩
      unfold w_X4_answer_b116
      refine k9 (s', _) ?_
      dsimp only
      refine ⟨succ_of i, F', z8, z9, fun r c hr hc => ?_⟩
      by_cases e : r = i
      · rw [e]; exact u' c hc
      · exact v' r c (by omega) hc
  · obtain ⟨s, x⟩ := a
    obtain ⟨e, F, y8, y9, v⟩ := hA
    dsimp only at e F y8 y9 v
    subst e
    show w_X4_answer_l31 Φ _ (m + 1) s _
    rw [w_X4_answer_l31, zz F 177 2 (by omega), q7]
    exact ⟨fun _ => h s F ⟨y8, y9, v⟩, fun h => absurd (Int32.le_refl _) h⟩
