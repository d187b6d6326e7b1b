/-! PLAIN LAW, 18: replay, posterior -/
set_option maxRecDepth 100000
def smL (f : Nat → Int64) : Nat → Int64
  | 0 => 0
  | k + 1 => smL f k + f k
theorem smL_cg {f g : Nat → Int64} : ∀ k, (∀ i, i < k → f i = g i) → smL f k = smL g k
  | 0, _ => rfl
  | k + 1, h => by rw [smL, smL, smL_cg k (fun i hi => h i (by omega)), h k (by omega)]
theorem in64 {l : Int64} {M : Nat} (hM : M < 2 ^ 31) (h : inB l 0 (Int32.ofNat M - 1).toInt64 = true) : ∃ r, r < M ∧ l.toInt32 = Int32.ofNat r := by
  unfold inB at h
  obtain ⟨h1, h2⟩ := Bool.and_eq_true_iff.mp h
  have h1 := of_decide_eq_true h1
  have h2 := of_decide_eq_true h2
  rw [ge064] at h1
  rw [sub1z hM, le64, ti_64 (by omega) (by omega)] at h2
  refine ⟨l.toInt.toNat, by omega, ?_⟩
  apply Int32.toInt_inj.mp
  rw [ti_of (by omega), Int64.toInt_toInt32, Int.bmod_eq_of_le (by omega) (by omega)]
  omega
theorem e_stands {st : St} {p1 : Int32} {p2 p3 : Int64} {Φ : St → Int64 → Prop} {Φw : St → Nat → Prop} (h : w_X0_stands_b42 Φ Φw st p1 p2 p3 (ib (inB p2 0 ((sI st 2 2) - 1).toInt64 && inB p3 0 ((sI st 2 3) - 1).toInt64))) : w_X0_stands st p1 p2 p3 Φ Φw := by
  unfold w_X0_stands w_X0_stands_b41
  simp only [pe_X0_in, ib_z]
  revert h
  cases inB p2 0 ((sI st 2 2) - 1).toInt64 <;> cases inB p3 0 ((sI st 2 3) - 1).toInt64 <;> simp [ib]
theorem e_replay {st : St} {p1 p2 p3 p4 : Int32} {Φ : St → Int64 → Prop} (h : w_X0_replay_b38 Φ st p1 p2 p3 p4 (ib (inB p1.toInt64 0 ((sI st 2 0) - 1).toInt64 && (inB p2.toInt64 0 4 && (inB p3.toInt64 0 4 && inB p4.toInt64 0 1))))) : w_X0_replay st p1 p2 p3 p4 Φ := by
  unfold w_X0_replay w_X0_replay_b37
  simp only [pe_X1_isState, pe_X0_isSheet, pe_X0_isPart, ib_z]
  revert h
  cases inB p1.toInt64 0 ((sI st 2 0) - 1).toInt64 <;> cases inB p2.toInt64 0 4 <;> cases inB p3.toInt64 0 4 <;> cases inB p4.toInt64 0 1 <;> simp [ib]
theorem x_replay_1 {st : St} {Φ : St → Int64 → Prop} {E1 : St → Int32 → Int32 → Int64 → Prop} {E2 : St → Nat → Prop} {p4 : Int32} {p k1 k2 n M N : Nat} (hp : p < 3) (hk1 : k1 < 5) (hk2 : k2 < 5) (hS1 : Sk st k1) (hS2 : Sk st k2) (hn : n ≤ 60) (hM : M ≤ 3) (hN : N ≤ 3) (hl1 : ∀ i, i < n → lostB st k1 (Int32.ofNat i) = false) (hl2 : ∀ i, i < n → lostB st k2 (Int32.ofNat i) = false) (hN9 : sN st + 4 ≤ gCAP) (hs9 : sS st + 229 ≤ gCAPS) (e2 : sI st 2 2 = Int32.ofNat M) (e3 : sI st 2 3 = Int32.ofNat N) (h1 : (∀ i, i < n → (inB (sL st 185 (60 * k1 + i)) 0 (Int32.ofNat M - 1).toInt64 && inB (sL st 185 (60 * k2 + i)) 0 (Int32.ofNat N - 1).toInt64) = true) → E1 st p4 (Int32.ofNat n) (smL (fun i => (sI st (2 + (3 + 4 * p + (sL st 185 (60 * k1 + i)).toInt32.toNatClampNeg)) (sL st 185 (60 * k2 + i)).toInt32.toNatClampNeg).toInt64) n)) (h2 : (∃ i, i < n ∧ (inB (sL st 185 (60 * k1 + i)) 0 (Int32.ofNat M - 1).toInt64 && inB (sL st 185 (60 * k2 + i)) 0 (Int32.ofNat N - 1).toInt64) = false) → ∀ st' e, Fr noW 1 7 st st' → sN st ≤ e → sI st' e 6 = 5 → E2 st' e) : w_X0_replay_l81 Φ E1 E2 gFU st (Int32.ofNat p) (Int32.ofNat k1) (Int32.ofNat k2) p4 (Int32.ofNat n) 0 0 := by
  refine loop_up (α := Int64 × Int32) (L := fun m a => w_X0_replay_l81 Φ E1 E2 m st (Int32.ofNat p) (Int32.ofNat k1) (Int32.ofNat k2) p4 (Int32.ofNat n) a.1 a.2) n (fun i a => a.2 = Int32.ofNat i ∧ a.1 = smL (fun i => (sI st (2 + (3 + 4 * p + (sL st 185 (60 * k1 + i)).toInt32.toNatClampNeg)) (sL st 185 (60 * k2 + i)).toInt32.toNatClampNeg).toInt64) i ∧ ∀ j, j < i → (inB (sL st 185 (60 * k1 + j)) 0 (Int32.ofNat M - 1).toInt64 && inB (sL st 185 (60 * k2 + j)) 0 (Int32.ofNat N - 1).toInt64) = true) (fun m i a hi hI k9 => ?_) (fun m a hI => ?_) gFU 0 (0, 0) (by omega) (gFU_big (by omega)) ⟨rfl, rfl, fun j hj => absurd hj (by omega)⟩
  · obtain ⟨x, y⟩ := a
    obtain ⟨i1, i2, hg⟩ := hI
    dsimp only at i1 i2
    subst i1 i2
    show w_X0_replay_l81 Φ E1 E2 (m + 1) st _ _ _ _ _ _ _
    rw [w_X0_replay_l81, le_of (by omega) (by omega), vp_of (by omega), vp_of (by omega), nn_of (by omega), nn_of (by omega)]
    refine ⟨fun h => absurd h (by omega), fun _ => ⟨hk1, s_getN hS1 (by omega) hN9 hs9 (fun _ _ => ⟨hk2, s_getN hS2 (by omega) hN9 hs9 (fun _ _ => ?_) (fun h => by rw [hl2 i hi] at h; cases h)⟩) (fun h => by rw [hl1 i hi] at h; cases h)⟩⟩
    refine e_stands ?_
    unfold w_X0_stands_b42
    rw [e2, e3]
    refine s_need (fun hc => ?_) (fun hc => ⟨by omega, by omega, fun st' f e => h2 ⟨i, hi, hc⟩ st' _ f (Nat.le_refl _) e⟩)
    obtain ⟨c1, c2⟩ := Bool.and_eq_true_iff.mp hc
    obtain ⟨r, r1, r2⟩ := in64 (by omega) c1
    obtain ⟨c, c3, c4⟩ := in64 (by omega) c2
    rw [vp_of (by omega), nn_of (by omega)]
    refine ⟨hp, by rw [r2, vp_of (by omega)]; omega, by rw [c4, vp_of (by omega)]; omega, ?_⟩
    rintro _ rfl
    refine k9 (_, _) ?_
    dsimp only
    refine ⟨succ_of i, rfl, fun j hj => ?_⟩
    by_cases e : j = i
    · rw [e]; exact hc
    · exact hg j (by omega)
  · obtain ⟨x, y⟩ := a
    obtain ⟨i1, i2, hg⟩ := hI
    dsimp only at i1 i2
    subst i1 i2
    show w_X0_replay_l81 Φ E1 E2 (m + 1) st _ _ _ _ _ _ _
    rw [w_X0_replay_l81]
    exact ⟨fun _ => h1 hg, fun h => absurd (Int32.le_refl _) h⟩
theorem m_replay_1 {st : St} {Φ : St → Int64 → Prop} {E1 : St → Int32 → Int32 → Int64 → Prop} {E2 : St → Prop} {p4 : Int32} {p k1 k2 n M N : Nat} (hp : p < 3) (hk1 : k1 < 5) (hk2 : k2 < 5) (hn : n ≤ 60) (hM : M ≤ 3) (hN : N ≤ 3) (e2 : sI st 177 2 = Int32.ofNat M) (e3 : sI st 177 3 = Int32.ofNat N) (h1 : (∀ i, i < n → (inB (sL st 185 (60 * k1 + i)) 0 (Int32.ofNat M - 1).toInt64 && inB (sL st 185 (60 * k2 + i)) 0 (Int32.ofNat N - 1).toInt64) = true) → E1 st p4 (Int32.ofNat n) (smL (fun i => (sI st 177 (4 + 9 * p + 3 * (sL st 185 (60 * k1 + i)).toInt32.toNatClampNeg + (sL st 185 (60 * k2 + i)).toInt32.toNatClampNeg)).toInt64) n)) (h2 : (∃ i, i < n ∧ (inB (sL st 185 (60 * k1 + i)) 0 (Int32.ofNat M - 1).toInt64 && inB (sL st 185 (60 * k2 + i)) 0 (Int32.ofNat N - 1).toInt64) = false) → E2 st) : w_X4_replay_l92 Φ E2 E1 gFU st (Int32.ofNat p) (Int32.ofNat k1) (Int32.ofNat k2) p4 (Int32.ofNat n) 0 0 := by
  refine loop_up (α := Int64 × Int32) (L := fun m a => w_X4_replay_l92 Φ E2 E1 m st (Int32.ofNat p) (Int32.ofNat k1) (Int32.ofNat k2) p4 (Int32.ofNat n) a.1 a.2) n (fun i a => a.2 = Int32.ofNat i ∧ a.1 = smL (fun i => (sI st 177 (4 + 9 * p + 3 * (sL st 185 (60 * k1 + i)).toInt32.toNatClampNeg + (sL st 185 (60 * k2 + i)).toInt32.toNatClampNeg)).toInt64) i ∧ ∀ j, j < i → (inB (sL st 185 (60 * k1 + j)) 0 (Int32.ofNat M - 1).toInt64 && inB (sL st 185 (60 * k2 + j)) 0 (Int32.ofNat N - 1).toInt64) = true) (fun m i a hi hI k9 => ?_) (fun m a hI => ?_) gFU 0 (0, 0) (by omega) (gFU_big (by omega)) ⟨rfl, rfl, fun j hj => absurd hj (by omega)⟩
  · obtain ⟨x, y⟩ := a
    obtain ⟨i1, i2, hg⟩ := hI
    dsimp only at i1 i2
    subst i1 i2
    show w_X4_replay_l92 Φ E2 E1 (m + 1) st _ _ _ _ _ _ _
    rw [w_X4_replay_l92, le_of (by omega) (by omega), pe_X4_numberAt hk1 (by omega), pe_X4_numberAt hk2 (by omega), pe_X4_isIn, ib_z, e2, e3]
    refine ⟨fun h => absurd h (by omega), fun _ => ⟨fun hc => h2 ⟨i, hi, by rw [hc]; rfl⟩, fun hc => ?_⟩⟩
    rw [pe_X4_isIn, ib_nz, ib_z]
    have c1 : inB (sL st 185 (60 * k1 + i)) 0 (Int32.ofNat M - 1).toInt64 = true := by
      cases h : inB (sL st 185 (60 * k1 + i)) 0 (Int32.ofNat M - 1).toInt64
      · exact absurd h hc
      · rfl
    refine ⟨fun c2 => ?_, fun c2 => h2 ⟨i, hi, by rw [c2, Bool.and_false]⟩⟩
    obtain ⟨r, r1, r2⟩ := in64 (by omega) c1
    obtain ⟨c, c3, c4⟩ := in64 (by omega) c2
    rw [r2, c4, pe_X4_place hp (by omega) (by omega), vp_of (by omega), nn_of (by omega)]
    refine ⟨by omega, ?_⟩
    rintro _ rfl
    refine k9 (_, _) ?_
    dsimp only
    refine ⟨succ_of i, ?_, fun j hj => ?_⟩
    · rw [smL, r2, c4, nn_of (by omega), nn_of (by omega)]
    · by_cases e : j = i
      · rw [e, c1, c2]; rfl
      · exact hg j (by omega)
  · obtain ⟨x, y⟩ := a
    obtain ⟨i1, i2, hg⟩ := hI
    dsimp only at i1 i2
    subst i1 i2
    show w_X4_replay_l92 Φ E2 E1 (m + 1) st _ _ _ _ _ _ _
    rw [w_X4_replay_l92]
    exact ⟨fun _ => h1 hg, fun h => absurd (Int32.le_refl _) h⟩
theorem z64 {n : Nat} (h : n < 2 ^ 31) : ((Int32.ofNat n).toInt64 = 0) = (n = 0) := by
  rw [eq64z, Int32.toInt_toInt64, ti_of h]
  apply propext; omega
theorem zN {n : Nat} (h : n < 2 ^ 31) : (Int32.ofNat n = 0) = (n = 0) := by
  rw [eq_ti (z := 0) 0 rfl, ti_of h]
  apply propext; omega
theorem o_replay {b : Nat} {st : St} {p1 p2 p3 p4 : Int32} {K E : St → Prop} (hI : Inv (b + 1) st) (hK : ∀ s, Inv b s → K s) : w_X0_replay st p1 p2 p3 p4 (fun s r => w_X4_replay s p1 p2 p3 p4 (fun s' r' => (r = r' → K s') ∧ (¬ r = r' → E s'))) := by
  obtain ⟨hN, hc1, hc2⟩ := Rm1 hI
  obtain ⟨K', G, M, N, q1, q2, q3, q4, q5, q6, q7, q8, q9, q10, q11, q12, q13, q14, q15, q16, q17, q18⟩ := hs_of hI
  have hS := iSx hI
  refine e_replay ?_
  unfold w_X0_replay_b38
  refine needL (M := fun s Ψ => w_X4_replay s p1 p2 p3 p4 Ψ) hI hK (by decide) (fun hc => ?_) (fun hc s2 f2 Φ h => ?_)
  · obtain ⟨h1, h234⟩ := Bool.and_eq_true_iff.mp hc
    clear hc
    obtain ⟨h2, h34⟩ := Bool.and_eq_true_iff.mp h234
    obtain ⟨h3, h4⟩ := Bool.and_eq_true_iff.mp h34
    clear h34 h234
    rw [q9, sub1_64 (by omega) (by omega)] at h1
    obtain ⟨p, g1, rfl⟩ := inB_nat (m := K' - 1) (by omega) rfl h1
    obtain ⟨k1, g2, rfl⟩ := inB_nat (m := 4) (by omega) rfl h2
    obtain ⟨k2, g3, rfl⟩ := inB_nat (m := 4) (by omega) rfl h3
    have hS1 := hS.1 k1 (by omega)
    have hS2 := hS.1 k2 (by omega)
    -- the reference behind its first tests
    have hm : ∀ s, (∀ a j, (a = 177 ∧ j < 96) ∨ (185 ≤ a ∧ a ≤ 187) → sI s a j = sI st a j) → ∀ Φ : St → Int64 → Prop, (sI st 186 k1 = 0 → w_X4_findsFar s 8 Φ) → (sI st 186 k2 = 0 → w_X4_findsFar s 8 Φ) → (sI st 186 k1 ≠ 0 → sI st 186 k2 ≠ 0 → sI st 187 k1 ≠ sI st 187 k2 → w_X4_findsFar s 3 Φ) → (sI st 186 k1 ≠ 0 → sI st 186 k2 ≠ 0 → sI st 187 k1 = sI st 187 k2 → w_X4_replay_l92 Φ (fun (s106 : St) => w_X4_replay_b153 Φ s106) (fun (s115 : St) (x4 : Int32) (x5 : Int32) (x6 : Int64) => w_X4_replay_b186 Φ s115 x4 x5 x6) gFU s (Int32.ofNat p) (Int32.ofNat k1) (Int32.ofNat k2) p4 (sI st 187 k1) 0 0) → w_X4_replay s (Int32.ofNat p) (Int32.ofNat k1) (Int32.ofNat k2) p4 Φ := fun s hs Φ a1 a2 a3 a4 => by
      unfold w_X4_replay w_X4_replay_b54
      rw [pe_X4_isState ((hs 177 0 (Or.inl ⟨rfl, by omega⟩)).trans q5) q1, h1, ib_z]
      refine ⟨fun h => (by cases h), fun _ => ?_⟩
      rw [pe_X4_isSheet, h2, ib_z]
      refine ⟨fun h => (by cases h), fun _ => ?_⟩
      rw [pe_X4_isSheet, h3, ib_z]
      refine ⟨fun h => (by cases h), fun _ => ?_⟩
      rw [pe_X4_isPart, h4, ib_nz, ib_z]
      refine ⟨fun _ => ?_, fun h => (by cases h)⟩
      rw [vp_of (by omega), vp_of (by omega), nn_of (by omega), nn_of (by omega), hs 186 k1 (Or.inr (by omega)), hs 186 k2 (Or.inr (by omega)), hs 187 k1 (Or.inr (by omega)), hs 187 k2 (Or.inr (by omega))]
      refine ⟨by omega, a1, fun b1 => ⟨by omega, fun b2 => ?_, a2⟩⟩
      rintro _ rfl
      exact ⟨fun b3 => a4 b1 b2 b3, fun b3 => a3 b1 b2 b3⟩
    have hsE : ∀ {k x y s2}, Fr (QE 1 k) x y st s2 → ∀ a j, (a = 177 ∧ j < 96) ∨ (185 ≤ a ∧ a ≤ 187) → sI s2 a j = sI st a j := fun {k x y s2} f2 a j h => (q_at f2 hN (by omega) (by
      rcases h with h | h
      · rw [h.1]; exact nQ_177 h.2
      · exact nQ_Sx (by unfold RSx; omega)) (by omega)).1
    rw [vp_of (by omega), nn_of (by omega)]
    refine ⟨by omega, s_shsize hS1 (by omega) (by omega) (fun b1 n n60 en => ?_) (fun b1 st1 e f1 he e1 => ?_)⟩
    · rw [vp_of (by omega), nn_of (by omega)]
      refine ⟨by omega, s_shsize hS2 (by omega) (by omega) (fun b2 m m60 em => ?_) (fun b2 st1 e f1 he e1 => ?_)⟩
      · have hne : ∀ z : Bool, (Int32.ofNat n = Int32.ofNat m ↔ z = true) → w_X0_replay_b71 (fun s r => w_X4_replay s (Int32.ofNat p) (Int32.ofNat k1) (Int32.ofNat k2) p4 (fun s' r' => (r = r' → K s') ∧ (¬ r = r' → E s'))) st (Int32.ofNat p) (Int32.ofNat k1) (Int32.ofNat k2) p4 (Int32.ofNat n) (ib z) := fun z hz => by
          unfold w_X0_replay_b71
          refine needL (k := 3) (M := fun s Ψ => w_X4_replay s (Int32.ofNat p) (Int32.ofNat k1) (Int32.ofNat k2) p4 Ψ) hI hK (by decide) (fun hc => ?_) (fun hc s2 f2 Φ h => ?_)
          · have enm := hz.mpr hc
            have enm2 := of_inj (by omega) (by omega) enm
            subst enm2
            have hl1 : ∀ i, i < n → lostB st k1 (Int32.ofNat i) = false := fun i hi => (lost_iff hS1 (by omega)).mpr ⟨b1, n, n60, en, hi⟩
            have hl2 : ∀ i, i < n → lostB st k2 (Int32.ofNat i) = false := fun i hi => (lost_iff hS2 (by omega)).mpr ⟨b2, n, n60, em, hi⟩
            refine x_replay_1 (M := M) (N := N) (by omega) (by omega) (by omega) hS1 hS2 n60 (by omega) (by omega) hl1 hl2 (by omega) (by omega) q11 q12 (fun hgood => ?_) (fun hbad st1 e f1 he e1 => ?_)
            · -- all stands
              have hsum : smL (fun i => (sI st (2 + (3 + 4 * p + (sL st 185 (60 * k1 + i)).toInt32.toNatClampNeg)) (sL st 185 (60 * k2 + i)).toInt32.toNatClampNeg).toInt64) n = smL (fun i => (sI st 177 (4 + 9 * p + 3 * (sL st 185 (60 * k1 + i)).toInt32.toNatClampNeg + (sL st 185 (60 * k2 + i)).toInt32.toNatClampNeg)).toInt64) n := smL_cg n (fun i hi => by
                obtain ⟨c1, c2⟩ := Bool.and_eq_true_iff.mp (hgood i hi)
                obtain ⟨r, r1, r2⟩ := in64 (by omega) c1
                obtain ⟨c, c3, c4⟩ := in64 (by omega) c2
                rw [r2, c4, nn_of (by omega), nn_of (by omega), q16 p r c (by omega) (by omega) (by omega)])
              rw [hsum]
              -- the reference's loop ends
              have hmend : ∀ Φ : St → Int64 → Prop, w_X4_replay_b186 Φ st p4 (Int32.ofNat n) (smL (fun i => (sI st 177 (4 + 9 * p + 3 * (sL st 185 (60 * k1 + i)).toInt32.toNatClampNeg + (sL st 185 (60 * k2 + i)).toInt32.toNatClampNeg)).toInt64) n) → w_X4_replay st (Int32.ofNat p) (Int32.ofNat k1) (Int32.ofNat k2) p4 Φ := fun Φ hΦ =>
                hm st (fun _ _ _ => rfl) Φ (fun h => absurd h b1) (fun h => absurd h b2) (fun _ _ h => absurd (en.trans em.symm) h) (fun _ _ _ => by
                  rw [en]
                  exact m_replay_1 (M := M) (N := N) (by omega) (by omega) (by omega) n60 (by omega) (by omega) q7 q8 (fun _ => hΦ) (fun ⟨i, hi, hb⟩ => by rw [hgood i hi] at hb; cases hb))
              generalize smL (fun i => (sI st 177 (4 + 9 * p + 3 * (sL st 185 (60 * k1 + i)).toInt32.toNatClampNeg + (sL st 185 (60 * k2 + i)).toInt32.toNatClampNeg)).toInt64) n = sum at hmend
              have hn0 : n = 0 → ∀ s2, (∀ a j, (a = 177 ∧ j < 96) ∨ (185 ≤ a ∧ a ≤ 187) → sI s2 a j = sI st a j) → ∀ Φ : St → Int64 → Prop, w_X4_findsFar s2 7 Φ → w_X4_replay s2 (Int32.ofNat p) (Int32.ofNat k1) (Int32.ofNat k2) p4 Φ := fun z s2 hs2 Φ h =>
                hm s2 hs2 Φ (fun h => absurd h b1) (fun h => absurd h b2) (fun _ _ h => absurd (en.trans em.symm) h) (fun _ _ _ => by
                  rw [en]
                  subst z
                  exact m_replay_1 (M := M) (N := N) (by omega) (by omega) (by omega) (by omega) (by omega) (by omega) ((hs2 177 2 (Or.inl ⟨rfl, by omega⟩)).trans q7) ((hs2 177 3 (Or.inl ⟨rfl, by omega⟩)).trans q8) (fun _ => ⟨fun h => absurd rfl h, fun _ => h⟩) (fun ⟨i, hi, _⟩ => absurd hi (by omega)))
              have ferr : n = 0 → sN st + 3 ≤ gCAP ∧ sS st + 40 ≤ gCAPS ∧ ∀ a147 b148, a147 ≤ 3 → b148 ≤ 40 → ∀ s150, s150 = jk st a147 b148 → sN s150 + 1 ≤ gCAP ∧ sS s150 + 7 ≤ gCAPS ∧ ∀ s154, s154 = mk s150 6 7 → w_X5_init s154 (sN s150) 7 (fun (s160 : St) => w_X0_answersFar s160 (sN s150) (fun s r => w_X4_replay s (Int32.ofNat p) (Int32.ofNat k1) (Int32.ofNat k2) p4 (fun s' r' => (r = r' → K s') ∧ (¬ r = r' → E s')))) := fun z =>
                s_junk (A := 3) (B := 40) (Φw := fun s e => w_X0_answersFar s e (fun s r => w_X4_replay s (Int32.ofNat p) (Int32.ofNat k1) (Int32.ofNat k2) p4 (fun s' r' => (r = r' → K s') ∧ (¬ r = r' → E s')))) (by omega) (by omega) (fun st1 e f1 he e1 => errL (M := fun s Ψ => w_X4_replay s (Int32.ofNat p) (Int32.ofNat k1) (Int32.ofNat k2) p4 Ψ) hI hK (k := 7) (by decide) f1 he e1 (by omega) (by omega) (fun s2 f2 Φ h => hn0 z s2 (hsE f2) Φ h))
              unfold w_X0_replay_b126
              rw [z64 (by omega)]
              refine ⟨fun hp4 => ⟨ferr, fun hn => ?_⟩, fun hp4 => ⟨ferr, fun hn => ?_⟩⟩
              · refine hmend _ ⟨fun _ => ⟨fun _ => ⟨by rw [z64 (by omega)]; exact hn, fun _ => hK _ (Inv_id hI), fun h => absurd rfl h⟩, fun h => absurd h hp4⟩, fun h => absurd h (by rw [zN (by omega)]; exact hn)⟩
              · refine hmend _ ⟨fun _ => ⟨fun h => absurd hp4 h, fun _ => ⟨by rw [z64 (by omega)]; exact hn, fun _ => hK _ (Inv_id hI), fun h => absurd rfl h⟩⟩, fun h => absurd h (by rw [zN (by omega)]; exact hn)⟩
            · refine errL (M := fun s Ψ => w_X4_replay s (Int32.ofNat p) (Int32.ofNat k1) (Int32.ofNat k2) p4 Ψ) hI hK (k := 5) (by decide) f1 he e1 (by omega) (by omega) (fun s2 f2 Φ h => ?_)
              refine hm s2 (hsE f2) Φ (fun h => absurd h b1) (fun h => absurd h b2) (fun _ _ h => absurd (en.trans em.symm) h) (fun _ _ _ => ?_)
              rw [en]
              have s5 : ∀ j, sL s2 185 j = sL st 185 j := fun j => (q_at f2 hN (by omega) (nQ_Sx (by unfold RSx; omega)) (by omega)).2.1
              refine m_replay_1 (M := M) (N := N) (by omega) (by omega) (by omega) n60 (by omega) (by omega) ((hsE f2 177 2 (Or.inl ⟨rfl, by omega⟩)).trans q7) ((hsE f2 177 3 (Or.inl ⟨rfl, by omega⟩)).trans q8) (fun hg => ?_) (fun _ => h)
              obtain ⟨i, hi, hb⟩ := hbad
              have := hg i hi
              rw [s5, s5, hb] at this; cases this
          · have hnm : Int32.ofNat n ≠ Int32.ofNat m := fun h => by rw [hz.mp h] at hc; cases hc
            exact hm s2 (hsE f2) Φ (fun h => absurd h b1) (fun h => absurd h b2) (fun _ _ _ => h) (fun _ _ h => absurd (en.symm.trans (h.trans em)) hnm)
        exact ⟨fun h => hne false ⟨fun h2 => absurd h2 h, fun h2 => by cases h2⟩, fun h => hne true ⟨fun _ => rfl, fun _ => h⟩⟩
      · exact errL (M := fun s Ψ => w_X4_replay s (Int32.ofNat p) (Int32.ofNat k1) (Int32.ofNat k2) p4 Ψ) hI hK (k := 8) (by decide) f1 he e1 (by omega) (by omega) (fun s2 f2 Φ h => hm s2 (hsE f2) Φ (fun _ => h) (fun _ => h) (fun _ h2 => absurd b2 h2) (fun _ h2 => absurd b2 h2))
    · exact errL (M := fun s Ψ => w_X4_replay s (Int32.ofNat p) (Int32.ofNat k1) (Int32.ofNat k2) p4 Ψ) hI hK (k := 8) (by decide) f1 he e1 (by omega) (by omega) (fun s2 f2 Φ h => hm s2 (hsE f2) Φ (fun _ => h) (fun _ => h) (fun h2 => absurd b1 h2) (fun h2 => absurd b1 h2))
  · show w_X4_replay s2 _ _ _ _ _
    unfold w_X4_replay w_X4_replay_b30
    rw [q9, sub1_64 (by omega) (by omega)] at hc
    rw [pe_X4_isState ((q_at f2 hN (by omega) (nQ_177 (by omega)) (by omega)).1.trans q5) q1, ib_z]
    refine ⟨fun _ => h, fun g1 => ?_⟩
    rw [pe_X4_isSheet, ib_z]
    refine ⟨fun _ => h, fun g2 => ?_⟩
    rw [pe_X4_isSheet, ib_z]
    refine ⟨fun _ => h, fun g3 => ?_⟩
    rw [pe_X4_isPart, ib_nz, ib_z]
    refine ⟨fun g4 => ?_, fun _ => h⟩
    rcases b_or hc with c | c
    · exact absurd c g1
    · rcases b_or c with c | c
      · exact absurd c g2
      · rcases b_or c with c | c
        · exact absurd c g3
        · rw [c] at g4; cases g4
