/-! PLAIN LAW, 7: target, size, feed, begin -/
set_option maxRecDepth 100000
theorem e_target {st : St} {p v : Int32} {Φ : St → Int32 → Prop} (h : w_X0_target_b30 Φ st p v (ib (inB p.toInt64 0 ((sI st 2 0) - 1).toInt64 && inB v.toInt64 (-99) 99))) : w_X0_target st p v Φ := by
  unfold w_X0_target w_X0_target_b29
  simp only [pe_X1_isState, pe_X0_in, ib_z]
  revert h
  cases inB p.toInt64 0 ((sI st 2 0) - 1).toInt64 <;> cases inB v.toInt64 (-99) 99 <;> simp [ib]
theorem e_size {st : St} {p v : Int32} {Φ : St → Int32 → Prop} (h : w_X0_size_b29 Φ st p v (ib (inB p.toInt64 1 3 && inB v.toInt64 1 3))) : w_X0_size st p v Φ := by
  unfold w_X0_size w_X0_size_b28
  simp only [pe_X0_in, ib_z]
  revert h
  cases inB p.toInt64 1 3 <;> cases inB v.toInt64 1 3 <;> simp [ib]
theorem o_target {b : Nat} {st : St} {p1 p2 : Int32} {K E : St → Prop} (hI : Inv (b + 1) st) (hK : ∀ s, Inv b s → K s) : w_X0_target st p1 p2 (fun s r => w_X4_target s p1 p2 (fun s' r' => (r = r' → K s') ∧ (¬ r = r' → E s'))) := by
  obtain ⟨hN, hc1, hc2⟩ := Rm1 hI
  obtain ⟨K, G, M, N, q1, q2, q3, q4, q5, q6, q7, q8, q9, q10, q11, q12, q13, q14, q15, q16, q17, q18⟩ := hs_of hI
  refine e_target ?_
  rw [q9, sub1_64 (by omega) (by omega)]
  unfold w_X0_target_b30
  refine s_must (fun hc => ?_) (fun hc => ⟨by omega, by omega, fun st1 f1 e1 => x_err (k := 1) (by decide) f1 (Nat.le_refl _) e1 hN (fun s2 f2 e2 => ?_)⟩)
  · obtain ⟨hc, hv⟩ := Bool.and_eq_true_iff.mp hc
    obtain ⟨n, k1, rfl⟩ := inB_nat (m := K - 1) (by omega) rfl hc
    have hb := i32_lo (-99) 99 (by omega) (by omega) (by decide) (by decide) hv
    rw [vp_of (by omega), nn_of (by omega)]
    refine ⟨by omega, ?_⟩
    rintro _ rfl _ rfl
    show w_X4_target _ _ _ _
    unfold w_X4_target
    have e32 : 32 + Int32.ofNat n = Int32.ofNat (32 + n) := by rw [Int32.ofNat_add]; rfl
    rw [pe_X4_isState (K := K) (by rw [gI_pI, if_neg (by omega)]; exact q5) q1, ib_z, hc, e32, vp_of (by omega), nn_of (by omega)]
    refine ⟨fun h => (by cases h), fun _ => ?_⟩
    rw [pe_X4_isIn, ib_nz, ib_z, hv]
    refine ⟨fun _ => ⟨by omega, ?_⟩, fun h => (by cases h)⟩
    rintro _ rfl _ rfl
    refine ⟨fun _ => hK _ (Hr_pair hI (by omega) (Or.inr (Or.inl ⟨rfl, by omega, rfl⟩)) (fun h => by omega) (fun _ => ⟨?_, ?_⟩) (fun h => by omega)), fun h => absurd ?_ h⟩
    · rw [Int32.le_iff_toInt_le]; exact hb.1
    · rw [Int32.le_iff_toInt_le]; exact hb.2
    · rw [gI_pI, if_neg (by omega)]; exact q17 n (by omega)
  · show w_X4_target s2 p1 p2 _
    unfold w_X4_target w_X4_target_b22
    rw [pe_X4_isState (K := K) ((fr_I _ _ f2 hN 177 0 (by omega) (fun h => by unfold wE at h; omega)).trans q5) q1, ib_z]
    refine ⟨fun _ => ?_, fun hp => ?_⟩
    · exact m_err (k := 1) (by decide) (fun s3 f3 e3 => ⟨fun _ => hK _ (err_fin (by decide) hI f2 f3 e2 e3 (by omega) (by omega) wE_1 wE_2), fun h => absurd rfl h⟩)
    · rw [pe_X4_isIn, ib_nz, ib_z]
      rcases b_or hc with h | h
      · exact absurd h hp
      · rw [h]
        refine ⟨fun h => (by cases h), fun _ => ?_⟩
        exact m_err (k := 1) (by decide) (fun s3 f3 e3 => ⟨fun _ => hK _ (err_fin (by decide) hI f2 f3 e2 e3 (by omega) (by omega) wE_1 wE_2), fun h => absurd rfl h⟩)
theorem o_size {b : Nat} {st : St} {p1 p2 : Int32} {K E : St → Prop} (hI : Inv (b + 1) st) (hK : ∀ s, Inv b s → K s) : w_X0_size st p1 p2 (fun s r => w_X4_size s p1 p2 (fun s' r' => (r = r' → K s') ∧ (¬ r = r' → E s'))) := by
  obtain ⟨hN, hc1, hc2⟩ := Rm1 hI
  obtain ⟨K, G, M, N, ⟨q1, q2, q3, q4, q5, q6, q7, q8, q9, q10, q11⟩, ⟨c1, c2, c3, c4⟩, hGv, hTr⟩ := hI.2.2.2.1
  refine e_size ?_
  unfold w_X0_size_b29
  refine s_must (fun hc => ?_) (fun hc => ⟨by omega, by omega, fun st1 f1 e1 => x_err (k := 1) (by decide) f1 (Nat.le_refl _) e1 hN (fun s2 f2 e2 => ?_)⟩)
  · obtain ⟨h1, h2⟩ := Bool.and_eq_true_iff.mp hc
    obtain ⟨m, m1, m2, rfl⟩ := inB_nat1 (l := 1) (m := 3) (by omega) (by omega) rfl rfl h1
    obtain ⟨n, n1, n2, rfl⟩ := inB_nat1 (l := 1) (m := 3) (by omega) (by omega) rfl rfl h2
    rintro _ rfl _ rfl _ rfl
    show w_X4_size _ _ _ _
    unfold w_X4_size
    rw [pe_X4_isIn, ib_z, h1]
    refine ⟨fun h => (by cases h), fun _ => ?_⟩
    rw [pe_X4_isIn, ib_nz, ib_z, h2]
    refine ⟨fun _ => ?_, fun h => (by cases h)⟩
    rintro _ rfl _ rfl _ rfl
    refine ⟨fun _ => hK _ ?_, fun h => absurd ?_ h⟩
    · have hF : Fr (fun a j => (a = 2 ∧ (j = 2 ∨ j = 3)) ∨ (a = 177 ∧ (j = 2 ∨ j = 3))) 0 0 st (putI (putI (putI (putI st 2 2 (Int32.ofNat m)) 2 3 (Int32.ofNat n)) 177 2 (Int32.ofNat m)) 177 3 (Int32.ofNat n)) := Fr_I (Fr_I (Fr_I (Fr_I Fr_rf (Or.inl (Or.inl ⟨rfl, Or.inl rfl⟩))) (Or.inl (Or.inl ⟨rfl, Or.inr rfl⟩))) (Or.inl (Or.inr ⟨rfl, Or.inl rfl⟩))) (Or.inl (Or.inr ⟨rfl, Or.inr rfl⟩))
      have em : ∀ j, sI (putI (putI (putI (putI st 2 2 (Int32.ofNat m)) 2 3 (Int32.ofNat n)) 177 2 (Int32.ofNat m)) 177 3 (Int32.ofNat n)) 177 j = if j = 3 then Int32.ofNat n else if j = 2 then Int32.ofNat m else sI st 177 j := fun j => by
        simp only [gI_pI]; simp
      have ex : ∀ a j, a ≤ 32 → sI (putI (putI (putI (putI st 2 2 (Int32.ofNat m)) 2 3 (Int32.ofNat n)) 177 2 (Int32.ofNat m)) 177 3 (Int32.ofNat n)) a j = if a = 2 ∧ j = 3 then Int32.ofNat n else if a = 2 ∧ j = 2 then Int32.ofNat m else sI st a j := fun a j ha => by
        simp only [gI_pI]
        rw [if_neg (by omega), if_neg (by omega)]
      obtain ⟨r1, r2, r3, r4, r5, r6, r7, r8, r9, r10, r11⟩ := Inv_fr hI hF (by omega) (by omega) (fun a j h hw => by first | omega | (dsimp only at hw; omega))
      refine ⟨r1, r2, r3 (fun a j h hw => by unfold REr at h; first | omega | (dsimp only at hw; omega)), ⟨K, G, m, n, ⟨q1, q2, by omega, by omega, ?_, ?_, ?_, ?_, ?_, fun j u1 u2 => ?_, fun j u1 u2 => ?_⟩, ⟨fun j u1 => ?_, ?_, fun g r c9 u1 u2 u3 => ?_, fun k u1 => ?_⟩, Gv_fr hF hN (by omega) (pt15 q1 q2).1 (fun a j h hw => by first | omega | (dsimp only at hw; omega)) hGv, Tr_fr hF (by omega) (by omega) (fun a j h hw => by first | omega | (dsimp only at hw; omega)) hTr⟩, r5 (fun a j h hw => by unfold RIm at h; first | omega | (dsimp only at hw; omega)), r6 (fun a j h hw => by unfold RZz at h; first | omega | (dsimp only at hw; omega)), r7 (fun a j h hw => by unfold RPy at h; first | omega | (dsimp only at hw; omega)), r8 (fun a j h hw => by unfold RTp at h; first | omega | (dsimp only at hw; omega)), r9 (fun a j h hw => by unfold RLi at h; first | omega | (dsimp only at hw; omega)), r10 (fun a j h hw => by unfold RSx at h; first | omega | (dsimp only at hw; omega)), r11 (fun a j h hw => by unfold RNt at h; first | omega | (dsimp only at hw; omega))⟩
      · rw [em, if_neg (by omega), if_neg (by omega)]; exact q5
      · rw [em, if_neg (by omega), if_neg (by omega)]; exact q6
      · rw [em, if_neg (by omega), if_pos rfl]
      · rw [em, if_pos rfl]
      · rw [em, if_neg (by omega), if_neg (by omega)]; exact q9
      · rw [em, if_neg (by omega), if_neg (by omega)]; exact q10 j u1 u2
      · rw [em, if_neg (by omega), if_neg (by omega)]; exact q11 j u1 u2
      · rw [em, ex _ _ (by omega)]
        by_cases e3 : j = 3
        · rw [if_pos ⟨rfl, e3⟩, if_pos e3]
        · rw [if_neg (fun h => e3 h.2), if_neg e3]
          by_cases e2 : j = 2
          · rw [if_pos ⟨rfl, e2⟩, if_pos e2]
          · rw [if_neg (fun h => e2 h.2), if_neg e2]; exact c1 j u1
      · rw [em, ex _ _ (by omega), if_neg (by omega), if_neg (by omega), if_neg (by omega), if_neg (by omega)]; exact c2
      · rw [em, ex _ _ (by omega), if_neg (by omega), if_neg (by omega), if_neg (by omega), if_neg (by omega)]; exact c3 g r c9 u1 u2 u3
      · rw [em, ex _ _ (by omega), if_neg (by omega), if_neg (by omega), if_neg (by omega), if_neg (by omega)]; exact c4 k u1
    · simp only [gI_pI]
      rw [c1 2 (by omega), c1 3 (by omega)]
      simp
  · show w_X4_size s2 p1 p2 _
    unfold w_X4_size w_X4_size_b24
    rw [pe_X4_isIn, ib_z]
    refine ⟨fun _ => ?_, fun hp => ?_⟩
    · exact m_err (k := 1) (by decide) (fun s3 f3 e3 => ⟨fun _ => hK _ (err_fin (by decide) hI f2 f3 e2 e3 (by omega) (by omega) wE_1 wE_2), fun h => absurd rfl h⟩)
    · rw [pe_X4_isIn, ib_nz, ib_z]
      rcases b_or hc with h | h
      · exact absurd h hp
      · rw [h]
        refine ⟨fun h => (by cases h), fun _ => ?_⟩
        exact m_err (k := 1) (by decide) (fun s3 f3 e3 => ⟨fun _ => hK _ (err_fin (by decide) hI f2 f3 e2 e3 (by omega) (by omega) wE_1 wE_2), fun h => absurd rfl h⟩)
