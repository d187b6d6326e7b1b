/-! PLAIN LAW, 45: one round alone, on -/
set_option maxRecDepth 100000
theorem o_once {b : Nat} {st : St} {p1 p2 : Int32} {K E : St → Prop} (hI : Inv (b + 1) st) (hK' : ∀ s, Inv b s → K s) : w_X0_once st p1 p2 (fun s r => w_X4_once s p1 p2 (fun s' r' => (r = r' → K s') ∧ (¬ r = r' → E s'))) := by
  obtain ⟨hN, hc1, hc2⟩ := Rm1 hI
  obtain ⟨K', G, M, N, hs⟩ := Hs_of hI
  have hh := hs
  obtain ⟨q1, q2, q3, q4, q5, q6, q7, q8, q9, q10, q11, q12, q13, q14, q15, q16⟩ := hh
  have hp15 := pt15 q1 q2
  have hk := hK_b (K := K') q3
  refine e_once ?_
  rw [q13, sub1_64 (by omega) (by omega)]
  unfold w_X0_once_b23
  refine needL (M := fun s Ψ => w_X4_once s p1 p2 Ψ) hI hK' (by decide) (fun hc => ?_) (fun hc s2 f2 Φ h => ?_)
  · obtain ⟨h1, h2⟩ := Bool.and_eq_true_iff.mp hc
    clear hc
    obtain ⟨p, g1, rfl⟩ := inB_nat (m := ptN K' G - 1) (by omega) rfl h1
    have hp : p < ptN K' G := by omega
    have hb := ch_bd hs hp
    unfold w_X0_onceAt
    refine s_laysChoices hN hs hp (fun s2 f2 T2 => ?_)
    have hN2 : 201 ≤ sN s2 := Nat.le_trans hN f2.1
    refine x_kernel hN2 hk.2 (by omega) T2 (fun n a c hf s10 hF => ?_) (found hk (by omega) hb)
    obtain ⟨g1, g2, g3, g4, g5, g6⟩ := fsN_ok (by omega) 4 1 n a c (by omega) hf
    obtain ⟨t1, t2, t3, t4⟩ := kT_pos g1 hb (set_lt g2 g4) (set_lt g3 g5) g6
    obtain ⟨k1, k2, k3⟩ := kTG q2 t1 t2
    obtain ⟨f10, v16, v17, v3, v4⟩ := hF
    have F10 : Fr (fun a j => wTb a j ∨ wKx a j ∨ a = 143) 0 0 st s10 := Fr_tr (x := 0) (y := 0) (Fr_mo f2 (fun _ _ h => Or.inl h) (Nat.le_refl _) (Nat.le_refl _)) (Fr_mo f10 (fun _ _ h => Or.inr (Or.inl h)) (Nat.le_refl _) (Nat.le_refl _))
    have e21 : sI s10 2 1 = Int32.ofNat G := by
      rw [(fr_at F10 (Or.inl (by omega)) (by unfold wTb wKx wSv; omega)).1]; exact q10
    have hpos : 0 < (kTot (chT K' G M p (gmF st)) n (gD a) (gD c) * (Int32.ofNat G).toInt64).toInt := by rw [k1]; omega
    rw [v16, v17, e21]
    refine s_X2_is (by omega) (fun v hv => ?_) (fun hv => by rw [isR_pos hpos] at hv; cases hv)
    rw [isR_pos hpos] at hv
    cases hv
    generalize hR : lowR (kWo (chT K' G M p (gmF st)) n (gD a) (gD c)) (kTot (chT K' G M p (gmF st)) n (gD a) (gD c) * (Int32.ofNat G).toInt64) = R
    have FX0 : Fr (fun a j => wTb a j ∨ wKx a j ∨ a = 143) 0 0 st (putP s10 143 R) := Fr_L (Fr_L F10 (Or.inl (Or.inr (Or.inr rfl)))) (Or.inl (Or.inr (Or.inr rfl)))
    have e0 : sL (putP s10 143 R) 143 0 = R.1 := by unfold putP; rw [gL_pL, if_neg (by omega), gL_pL, if_pos ⟨rfl, rfl⟩]
    have e1 : sL (putP s10 143 R) 143 1 = R.2 := by unfold putP; rw [gL_pL, if_pos ⟨rfl, rfl⟩]
    generalize putP s10 143 R = sx at FX0 e0 e1
    have FX : Fr Qt 0 0 st sx := Fr_mo FX0 (fun a j h => Qt_x (by unfold wTb wKx wSv at h; omega)) (Nat.le_refl _) (Nat.le_refl _)
    obtain ⟨hsx, -⟩ := Hs_q FX0 hN (fun a j h hw => by unfold wTb wKx wSv at hw; omega) hs
    have hNx : 201 ≤ sN sx := Nat.le_trans hN FX0.1
    have gx : gmF sx = gmF st := gm_eq FX0 hN (fun j hw => by unfold wTb wKx wSv at hw; omega)
    have hm : ∀ Φ : St → Int64 → Prop, (∀ s3, Fr Qt 0 0 sx s3 → Φ s3 (if p2 = 0 then R.1 else R.2)) → w_X4_once sx (Int32.ofNat p) p2 Φ := fun Φ hΦ => by
      unfold w_X4_once
      rw [pe_X4_isPoint hsx.2.2.2.2.1 hsx.2.2.2.2.2.1 q1 q2, h1, ib_z]
      refine ⟨fun h => (by cases h), fun _ => ?_⟩
      rw [pe_X4_isPart, h2, ib_nz, ib_z]
      refine ⟨fun _ => m_begins (fun s5 f5 c5 z5 => ?_), fun h => (by cases h)⟩
      obtain ⟨hs5, -⟩ := Hs_q f5 hNx (fun a j h hw => by omega) hsx
      have hN5 : 201 ≤ sN s5 := Nat.le_trans hNx f5.1
      have g5' : gmF s5 = gmF st := (gm_eq f5 hNx (fun j hw => by omega)).trans gx
      have F5 : Fr Qt 0 0 sx s5 := Fr_mo f5 (fun a j h => Qt_x (by omega)) (Nat.le_refl _) (Nat.le_refl _)
      refine s_once_lay hN5 hs5 hp (fun s6 f6 T6 => ?_)
      rw [g5'] at T6
      have hN6 : 201 ≤ sN s6 := Nat.le_trans hN5 f6.1
      refine m_kernel hN6 hk.2 (by omega) T6 (hBd_ok hb) (fun n' a' c' hf' s7 hF' => ?_) (found hk (by omega) hb)
      rw [hf] at hf'
      cases hf'
      obtain ⟨f7, w29, w30, -⟩ := hF'
      have c7 : sI s7 175 20 = ib false := by
        rw [(fr_at f7 (Or.inl (by omega)) (by unfold wKy wKm; omega)).1, (fr_at f6 (Or.inl (by omega)) (by unfold wTm; omega)).1]; exact c5
      have eG7 : sI s7 177 1 = Int32.ofNat G := by
        rw [(fr_at f7 (Or.inl (by omega)) (by unfold wKy wKm; omega)).1, (fr_at f6 (Or.inl (by omega)) (by unfold wTm; omega)).1]; exact hs5.2.2.2.2.2.1
      refine m_byParts (c := false) q2 (Nat.le_trans hN6 f7.1) c7 eG7 w29 w30 t1 t2 (by omega) (fun s8 f8 c8 v8 => ?_)
      have v9 := v8 rfl
      rw [hR] at v9
      have F8 : Fr Qt 0 0 sx s8 := Fr_tr (x := 0) (y := 0) F5 (Fr_tr (x := 0) (y := 0) (Fr_mo f6 (fun a j h => Qt_x (by unfold wTm at h; omega)) (Nat.le_refl _) (Nat.le_refl _)) (Fr_tr (x := 0) (y := 0) (Fr_mo f7 (fun a j h => Qt_x (by unfold wKy wKm at h; omega)) (Nat.le_refl _) (Nat.le_refl _)) (Fr_mo f8 wR_Q (Nat.le_refl _) (Nat.le_refl _))))
      have h9 := hΦ s8 F8
      rw [← v9] at h9
      refine ⟨fun hp2 => ?_, fun hp2 => ?_⟩
      · rw [if_neg hp2] at h9; exact h9
      · rw [if_pos hp2] at h9; exact h9
    unfold w_X2_part
    refine ⟨fun hp2 => ?_, fun hp2 => ?_⟩
    · rw [e1]
      refine hm _ (fun s3 f3 => ?_)
      rw [if_neg hp2]
      exact ⟨fun _ => hK' _ (Inv_q hI (Fr_tr (x := 0) (y := 0) FX f3) (by omega) (by omega)), fun h => absurd rfl h⟩
    · rw [e0]
      refine hm _ (fun s3 f3 => ?_)
      rw [if_pos hp2]
      exact ⟨fun _ => hK' _ (Inv_q hI (Fr_tr (x := 0) (y := 0) FX f3) (by omega) (by omega)), fun h => absurd rfl h⟩
  · show w_X4_once s2 _ _ _
    unfold w_X4_once w_X4_once_b15
    rw [pe_X4_isPoint ((q_at f2 hN (by omega) (nQ_177 (by omega)) (by omega)).1.trans q5) ((q_at f2 hN (by omega) (nQ_177 (by omega)) (by omega)).1.trans q6) q1 q2, ib_z]
    refine ⟨fun _ => h, fun g1 => ?_⟩
    rw [pe_X4_isPart, ib_nz, ib_z]
    refine ⟨fun g4 => ?_, fun _ => h⟩
    rcases b_or hc with c | c
    · exact absurd c g1
    · rw [c] at g4; cases g4
