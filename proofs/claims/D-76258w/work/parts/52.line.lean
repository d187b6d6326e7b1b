/-! PLAIN LAW, 13: letter, letters, count -/
set_option maxRecDepth 100000
theorem shr0 (x : Int32) : x >>> ((0 : Int32) &&& 31) = x := by
  rw [show ((0 : Int32) &&& 31) = 0 by decide]
  exact Int32.shiftRight_zero
theorem chB : ∀ b, b < 128 → (((Int32.ofNat b) &&& 255).toUInt32 % 65536).toInt32 = Int32.ofNat b := by decide +kernel
theorem s_chk {st : St} {i n : Nat} {Φ : Prop} (h : i < n) (hn : n < 2 ^ 31) (h9 : Φ) : w_J6_checkIndex st (Int32.ofNat i) (Int32.ofNat n) Φ := by
  unfold w_J6_checkIndex w_J16_checkIndex
  intro r1
  rw [lt_of (by omega) hn, lt0_32, ti_of (by omega)]
  exact ⟨fun h => absurd h (by omega), fun _ => ⟨fun _ => h9, fun h2 => absurd h h2⟩⟩
/-- what is read of a text -/
theorem s_tx {st : St} {a n : Nat} {f : Nat → Int32} (hT : Tx st a n f) (hn : n ≤ 600) (hf : ∀ i, i < n → ∃ b, b < 128 ∧ f i = Int32.ofNat b) : (sh st a = 10 ∨ (sh st a = 11 ∧ a < gBIG)) ∧ (∀ Φ : Int32 → Prop, Φ (Int32.ofNat n) → (sh st a = 10 → w_J6_length st a Φ) ∧ (sh st a = 11 → a < gBIG → w_J11_length st a Φ)) ∧ ∀ i, i < n → ∀ Φ : Int32 → Prop, Φ (f i) → (sh st a = 10 → w_J6_charAt st a (Int32.ofNat i) Φ) ∧ (sh st a = 11 → a < gBIG → w_J11_charAt st a (Int32.ofNat i) Φ) := by
  obtain ⟨v, t1, t2, t3, t4, t5, t6, t7⟩ := hT
  refine ⟨by rcases t4 with h | h <;> simp [h.1, h.2.1], fun Φ hΦ => ⟨fun hs => ?_, fun hs hg => ?_⟩, fun i hi Φ hΦ => ⟨fun hs => ?_, fun hs hg => ?_⟩⟩
  · rcases t4 with ⟨k1, k2, k3⟩ | ⟨k1, -⟩
    · unfold w_J6_length w_J6_coder
      refine ⟨v, t1, t2, ?_⟩
      rw [k2, k3]
      refine ⟨by decide, ?_⟩
      show Φ (Int32.ofNat n >>> ((0 : Int32) &&& 31))
      rw [shr0]; exact hΦ
    · rw [hs] at k1; cases k1
  · rcases t4 with ⟨k1, -⟩ | ⟨k1, k2, k3, k4, k5⟩
    · rw [hs] at k1; cases k1
    · unfold w_J11_length w_J10_length
      rw [k4]; exact hΦ
  · rcases t4 with ⟨k1, k2, k3⟩ | ⟨k1, -⟩
    · unfold w_J6_charAt w_J6_isLatin1 w_J15_charAt
      rw [k2]
      refine ⟨fun h => absurd rfl h, fun _ => ⟨fun h => (by cases h), fun _ => ⟨v, t1, t2, ?_⟩⟩⟩
      obtain ⟨b, b1, b2⟩ := hf i hi
      rw [k3, nn_of (by omega), t3 i hi, b2, chB b b1, ti_of (by omega)]
      refine s_chk hi (by omega) ⟨by rw [vp_of (by omega)]; exact hi, by omega, ⟨by rw [ti_of (by omega)]; omega, ?_⟩⟩
      rw [← b2]; exact hΦ
    · rw [hs] at k1; cases k1
  · rcases t4 with ⟨k1, -⟩ | ⟨k1, k2, k3, k4, k5, k6⟩
    · rw [hs] at k1; cases k1
    · unfold w_J11_charAt w_J10_charAt w_J8_min
      have hv : v < gBIG := by rcases t7 with h | h <;> omega
      rw [k3, k4]
      rintro _ rfl
      obtain ⟨b, b1, b2⟩ := hf i hi
      refine ⟨v, t1, hv, t2, ?_⟩
      rw [shr0, lt_of (by omega) (by omega), nn_of (by omega), t3 i hi, b2, chB b b1, ti_of (by omega)]
      have fin : ∀ m : Nat, i < m → m < 2 ^ 31 → w_J6_checkIndex st (Int32.ofNat i) (Int32.ofNat m) (((0 : Int32) ≠ 0 → False) ∧ ((0 : Int32) = 0 → vp_in (Int32.ofNat i) (ln st v) ∧ (0 ≤ ((b : Nat) : Int) ∧ ((b : Nat) : Int) < 65536) ∧ ((0 ≤ (Int32.ofNat b).toInt ∧ (Int32.ofNat b).toInt < 65536) ∧ Φ (Int32.ofNat b)))) := fun m h1 h2 => s_chk h1 h2 ⟨fun h => absurd rfl h, fun _ => ⟨by rw [vp_of (by omega)]; omega, by omega, by rw [ti_of (by omega)]; omega, by rw [← b2]; exact hΦ⟩⟩
      exact ⟨fun h => fin _ (by omega) (by omega), fun h => fin _ (by omega) (by omega)⟩
theorem s_li {st : St} (hL : Li st) : ∃ a n, n ≤ 600 ∧ sR st 0 42 = some a ∧ sI st 175 13 = Int32.ofNat n ∧ (sh st a = 10 ∨ (sh st a = 11 ∧ a < gBIG)) ∧ (∀ Φ : Int32 → Prop, Φ (Int32.ofNat n) → (sh st a = 10 → w_J6_length st a Φ) ∧ (sh st a = 11 → a < gBIG → w_J11_length st a Φ)) ∧ ∀ i, i < n → ∀ Φ : Int32 → Prop, Φ (sI st 183 i) → (sh st a = 10 → w_J6_charAt st a (Int32.ofNat i) Φ) ∧ (sh st a = 11 → a < gBIG → w_J11_charAt st a (Int32.ofNat i) Φ) := by
  obtain ⟨a, n, h1, h2, h3, h4, h5⟩ := hL
  obtain ⟨k1, k2, k3⟩ := s_tx h3 h1 h5
  exact ⟨a, n, h1, h2, h4, k1, k2, k3⟩
theorem q_at {st st' : St} {k x y : Nat} {c a j : Nat} (hF : Fr (QE c k) x y st st') (hN : 201 ≤ sN st) (ha : a < 201) (hq : ¬ Qt a j) (hc : a ≠ c) : Same st st' a j := fr_at hF (Or.inl (by omega)) (QE_no hq hc)
theorem nQ_Li {a j : Nat} (h : RLi a j) : ¬ Qt a j := fun q => q.2.2.2.2.2.2.2.1 h
theorem nQ_Sx {a j : Nat} (h : RSx a j) : ¬ Qt a j := fun q => q.2.2.2.2.2.2.2.2.1 h
theorem nQ_Tp {a j : Nat} (h : RTp a j) : ¬ Qt a j := fun q => q.2.2.2.2.2.2.1 h
theorem nQ_Py {a j : Nat} (h : RPy a j) : ¬ Qt a j := fun q => q.2.2.2.2.2.1 h
theorem nQ_Im {a j : Nat} (h : RIm a j) : ¬ Qt a j := fun q => q.2.2.2.1 h
theorem o_letter {b : Nat} {st : St} {p1 : Int32} {K E : St → Prop} (hI : Inv (b + 1) st) (hK : ∀ s, Inv b s → K s) : w_X0_letter st p1 (fun s r => w_X4_letter s p1 (fun s' r' => (r = r' → K s') ∧ (¬ r = r' → E s'))) := by
  obtain ⟨hN, hc1, hc2⟩ := Rm1 hI
  obtain ⟨a, n, l1, l2, l3, l4, l5, l6⟩ := s_li (iLi hI)
  unfold w_X0_letter
  refine ⟨a, l2, l4, ?_⟩
  refine l5 _ ?_
  rw [pe_X0_in]
  refine needI (M := fun s Ψ => w_X4_letter s p1 Ψ) hI hK (by decide) (fun hc => ?_) (fun hc s2 f2 Φ h => ?_)
  · have hv := hc
    rw [inB_vp (by omega)] at hv
    obtain ⟨i, rfl, i1, i2⟩ := vp_ex hv
    refine ⟨a, l2, l4, ?_⟩
    refine l6 i i1 _ ?_
    show w_X4_letter st _ _
    unfold w_X4_letter
    rw [pe_X4_isIn, l3, ib_z, hc, vp_of i2, nn_of i2]
    exact ⟨fun h => (by cases h), fun _ => ⟨by omega, fun _ => hK _ (Inv_id hI), fun h => absurd rfl h⟩⟩
  · show w_X4_letter s2 _ _
    unfold w_X4_letter
    rw [pe_X4_isIn, (q_at f2 hN (by omega) (nQ_Li (by unfold RLi; omega)) (by omega)).1, l3, ib_z, hc]
    exact ⟨fun _ => h, fun h => absurd rfl h⟩
/-- how often a letter is there -/
def cnL (f : Nat → Int32) (c : Int32) : Nat → Int32
  | 0 => 0
  | k + 1 => cnL f c k + (if f k = c then 1 else 0)
theorem o_letters {b : Nat} {st : St} {p1 : Int32} {K E : St → Prop} (hI : Inv (b + 1) st) (hK : ∀ s, Inv b s → K s) : w_X0_letters st p1 (fun s r => w_X4_letters s p1 (fun s' r' => (r = r' → K s') ∧ (¬ r = r' → E s'))) := by
  obtain ⟨a, n, l1, l2, l3, l4, l5, l6⟩ := s_li (iLi hI)
  have hm : ∀ Φ : St → Int32 → Prop, Φ st (cnL (fun i => sI st 183 i) p1 n) → w_X4_letters st p1 Φ := fun Φ hΦ => by
    unfold w_X4_letters
    refine loop_up (α := Int32 × Int32) (L := fun n a => w_X4_letters_l4 Φ (fun (s6 : St) (x2 : Int32) => w_X4_letters_b36 Φ s6 x2) n st p1 a.1 a.2) n (fun i a => a = (cnL (fun i => sI st 183 i) p1 i, Int32.ofNat i)) (fun m i a hi hI k => ?_) (fun m a hI => ?_) gFU 0 (0, 0) (by omega) (gFU_big (by omega)) rfl
    · subst hI
      show w_X4_letters_l4 Φ _ (m + 1) st p1 _ _
      rw [w_X4_letters_l4]
      rw [l3, le_of (by omega) (by omega), vp_of (by omega), nn_of (by omega)]
      have leaf : ∀ z, z = (if sI st 183 i = p1 then (1 : Int32) else 0) → w_X4_letters_b28 Φ (w_X4_letters_l4 Φ (fun (s6 : St) (x2 : Int32) => w_X4_letters_b36 Φ s6 x2) m) st p1 (Int32.ofNat i) z (cnL (fun i => sI st 183 i) p1 i) := by
        rintro _ rfl
        unfold w_X4_letters_b28
        rintro _ rfl
        refine k (_, _) ?_
        rw [succ_of]; rfl
      exact ⟨fun h => absurd h (by omega), fun _ => ⟨by omega, fun h => leaf 0 (by rw [if_neg h]), fun h => leaf 1 (by rw [if_pos h])⟩⟩
    · subst hI
      show w_X4_letters_l4 Φ _ (m + 1) st p1 _ _
      rw [w_X4_letters_l4]
      rw [l3]
      exact ⟨fun _ => hΦ, fun h => absurd (Int32.le_refl _) h⟩
  have hx : ∀ Φ : St → Int32 → Prop, Φ st (cnL (fun i => sI st 183 i) p1 n) → w_X0_letters st p1 Φ := fun Φ hΦ => by
    unfold w_X0_letters
    refine loop_up (α := Int32 × Int32) (L := fun n a => w_X0_letters_l4 Φ (fun (s43 : St) (x2 : Int32) => w_X0_letters_b45 Φ s43 x2) n st p1 a.1 a.2) n (fun i a => a = (cnL (fun i => sI st 183 i) p1 i, Int32.ofNat i)) (fun m i a' hi hI k => ?_) (fun m a' hI => ?_) gFU 0 (0, 0) (by omega) (gFU_big (by omega)) rfl
    · subst hI
      show w_X0_letters_l4 Φ _ (m + 1) st p1 _ _
      rw [w_X0_letters_l4]
      have leaf : ∀ z, z = (if sI st 183 i = p1 then (1 : Int32) else 0) → w_X0_letters_b37 Φ (w_X0_letters_l4 Φ (fun (s43 : St) (x2 : Int32) => w_X0_letters_b45 Φ s43 x2) m) st p1 (Int32.ofNat i) z (cnL (fun i => sI st 183 i) p1 i) := by
        rintro _ rfl
        unfold w_X0_letters_b37
        rintro _ rfl
        refine k (_, _) ?_
        rw [succ_of]; rfl
      refine ⟨a, l2, l4, fun h => (l5 _ ?_).1 h, fun h hg => (l5 _ ?_).2 h hg⟩
      · rw [le_of (by omega) (by omega)]
        exact ⟨fun h => absurd h (by omega), fun _ => (l6 i hi _ ⟨fun h => leaf 0 (by rw [if_neg h]), fun h => leaf 1 (by rw [if_pos h])⟩).1 h⟩
      · rw [le_of (by omega) (by omega)]
        exact ⟨fun h => absurd h (by omega), fun _ => (l6 i hi _ ⟨fun h => leaf 0 (by rw [if_neg h]), fun h => leaf 1 (by rw [if_pos h])⟩).2 h hg⟩
    · subst hI
      show w_X0_letters_l4 Φ _ (m + 1) st p1 _ _
      rw [w_X0_letters_l4]
      exact ⟨a, l2, l4, fun h => (l5 _ ⟨fun _ => hΦ, fun h => absurd (Int32.le_refl _) h⟩).1 h, fun h hg => (l5 _ ⟨fun _ => hΦ, fun h => absurd (Int32.le_refl _) h⟩).2 h hg⟩
  exact hx _ (hm _ ⟨fun _ => hK _ (Inv_id hI), fun h => absurd rfl h⟩)
theorem o_count {b : Nat} {st : St} {p1 : Int32} {K E : St → Prop} (hI : Inv (b + 1) st) (hK : ∀ s, Inv b s → K s) : w_X0_count st p1 (fun s r => w_X4_count s p1 (fun s' r' => (r = r' → K s') ∧ (¬ r = r' → E s'))) := by
  obtain ⟨hN, hc1, hc2⟩ := Rm1 hI
  obtain ⟨a, n, l1, l2, l3, l4, l5, l6⟩ := s_li (iLi hI)
  obtain ⟨K', G, M, N, q1, q2, q3, q4, q5, q6, q7, q8, q9, q10, q11, q12, q13, q14, q15, q16, q17, q18⟩ := hs_of hI
  obtain ⟨nt, -, t2, t3, -⟩ := iTp hI
  have z6 : sI st 0 6 = sI st 177 96 := iZz hI
  unfold w_X0_count
  rw [pe_X0_in]
  refine needI (M := fun s Ψ => w_X4_count s p1 Ψ) hI hK (by decide) (fun hc => ?_) (fun hc s2 f2 Φ h => ?_)
  · obtain ⟨k, k1, rfl⟩ := inB_nat (m := 7) (by omega) rfl hc
    have fin : ∀ {r r' : Int32}, r = r' → ((r = r' → K st) ∧ (¬ r = r' → E st)) := fun h => ⟨fun _ => hK _ (Inv_id hI), fun h2 => absurd h h2⟩
    have e0 := q9.trans q5.symm
    have e1 := q10.trans q6.symm
    have e2 := q11.trans q7.symm
    have e3 := q12.trans q8.symm
    have e5 := t2.trans t3.symm
    unfold w_X4_count
    refine ⟨fun h => ?_, fun h => ?_, fun h => ?_, fun h => ?_, fun h => ?_, fun h => ?_, fun h => ⟨a, l2, l4, l5 _ ?_⟩, fun h => ?_⟩
    · refine ⟨fun _ => fin e0, ?_, ?_, ?_, ?_, ?_, ?_, ?_, ?_⟩ <;> (rw [h]; intro h2; exact absurd h2 (by decide))
    · refine ⟨?_, fun _ => fin e1, ?_, ?_, ?_, ?_, ?_, ?_, ?_⟩ <;> (rw [h]; intro h2; exact absurd h2 (by decide))
    · refine ⟨?_, ?_, fun _ => fin e2, ?_, ?_, ?_, ?_, ?_, ?_⟩ <;> (rw [h]; intro h2; exact absurd h2 (by decide))
    · refine ⟨?_, ?_, ?_, fun _ => fin e3, ?_, ?_, ?_, ?_, ?_⟩ <;> (rw [h]; intro h2; exact absurd h2 (by decide))
    · refine ⟨?_, ?_, ?_, ?_, fun _ => fin q14, ?_, ?_, ?_, ?_⟩ <;> (rw [h]; intro h2; exact absurd h2 (by decide))
    · refine ⟨?_, ?_, ?_, ?_, ?_, fun _ => fin e5, ?_, ?_, ?_⟩ <;> (rw [h]; intro h2; exact absurd h2 (by decide))
    · refine ⟨?_, ?_, ?_, ?_, ?_, ?_, fun _ => fin l3.symm, ?_, ?_⟩ <;> (rw [h]; intro h2; exact absurd h2 (by decide))
    · rw [ti_of (by omega)] at h
      have hk : k = 7 := by omega
      subst hk
      refine ⟨?_, ?_, ?_, ?_, ?_, ?_, ?_, fun _ => fin z6, ?_⟩ <;> (intro h2; exact absurd h2 (by decide))
  · show w_X4_count s2 _ _
    unfold w_X4_count
    refine ⟨?_, ?_, ?_, ?_, ?_, ?_, ?_, ?_, fun _ => h⟩ <;> (rintro rfl; exact absurd hc (by decide))
