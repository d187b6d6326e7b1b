/-! PLAIN LAW, 59: best, weight, mix -/
set_option maxRecDepth 100000
theorem e_best {st : St} {p1 p2 : Int32} {Φ : St → Int32 → Prop} (h : w_X0_best_b23 Φ st p1 p2 (ib (inB p1.toInt64 0 ((sI st 2 9) - 1).toInt64 && inB p2.toInt64 0 2))) : w_X0_best st p1 p2 Φ := by
  unfold w_X0_best w_X0_best_b22
  simp only [pe_X1_isPoint, pe_X0_isPlace, ib_z]
  revert h
  cases inB p1.toInt64 0 ((sI st 2 9) - 1).toInt64 <;> cases inB p2.toInt64 0 2 <;> simp [ib]
theorem e_weight {st : St} {p1 p2 p3 : Int32} {Φ : St → Int64 → Prop} (h : w_X0_weight_b30 Φ st p1 p2 p3 (ib (inB p1.toInt64 0 ((sI st 2 9) - 1).toInt64 && (inB p2.toInt64 0 2 && inB p3.toInt64 0 1)))) : w_X0_weight st p1 p2 p3 Φ := by
  unfold w_X0_weight w_X0_weight_b29
  simp only [pe_X1_isPoint, pe_X0_isPlace, pe_X0_isPart, ib_z]
  revert h
  cases inB p1.toInt64 0 ((sI st 2 9) - 1).toInt64 <;> cases inB p2.toInt64 0 2 <;> cases inB p3.toInt64 0 1 <;> simp [ib]
theorem o_best {b : Nat} {st : St} {p1 p2 : Int32} {K E : St → Prop} (hI : Inv (b + 1) st) (hK' : ∀ s, Inv b s → K s) : w_X0_best st p1 p2 (fun s r => w_X4_best s p1 p2 (fun s' r' => (r = r' → K s') ∧ (¬ r = r' → E s'))) := by
  obtain ⟨hN, hc1, hc2⟩ := Rm1 hI
  obtain ⟨K', G, M, N, hs⟩ := Hs_of hI
  have hh := hs
  obtain ⟨q1, q2, q3, q4, q5, q6, q7, q8, q9, q10, q11, q12, q13, q14, q15, q16⟩ := hh
  have hp15 := pt15 q1 q2
  have h138 : pR st 138 = (0, 1) := by obtain ⟨a1, a2⟩ := iNt hI; unfold pR; rw [a1, a2]
  refine e_best ?_
  rw [q13, sub1_64 (by omega) (by omega)]
  unfold w_X0_best_b23
  refine needI (M := fun s Ψ => w_X4_best s p1 p2 Ψ) hI hK' (by decide) (fun hc => ?_) (fun hc s2 f2 Φ h => ?_)
  · obtain ⟨h1, h2⟩ := Bool.and_eq_true_iff.mp hc
    clear hc
    obtain ⟨p, g1, rfl⟩ := inB_nat (m := ptN K' G - 1) (by omega) rfl h1
    obtain ⟨i, g2, rfl⟩ := inB_nat (m := 2) (by omega) rfl h2
    have hp : p < ptN K' G := by omega
    obtain ⟨r, hR⟩ := HuR_ex (K := K') (G := G) (M := M) (N := N) (p := p) (f := gmF st) q1 q2 K' 1 (some none) (by omega) (by omega)
    have hm : ∀ s, 201 ≤ sN s → Hs s K' G M N → gmF s = gmF st → ∀ Φ : St → Int32 → Prop, (∀ b, r = some (some b) → b.1 ≤ K' ∧ ∀ s3, Fr wHm 0 0 s s3 → (i < b.1 → Φ s3 (Int32.ofNat (gT b.2.1 i))) ∧ (¬ i < b.1 → w_X4_finds s3 2 Φ)) → (r = none → ∀ s3, Fr wHm 0 0 s s3 → w_X4_finds s3 6 Φ) → w_X4_best s (Int32.ofNat p) (Int32.ofNat i) Φ := fun s hNs hss gs Φ k1 k2 => by
      unfold w_X4_best
      rw [pe_X4_isPoint hss.2.2.2.2.1 hss.2.2.2.2.2.1 q1 q2, h1, ib_z]
      refine ⟨fun h => (by cases h), fun _ => ?_⟩
      rw [pe_X4_isIn, h2, ib_nz, ib_z]
      refine ⟨fun _ => m_hullRun hNs hss hp (by rw [gs]; exact hR) (fun s' F' B e1 e2 => ?_), fun h => (by cases h)⟩
      cases hr : r with
      | none =>
        rw [hr] at B
        have c9 : sI s' 175 20 = 1 := B
        rw [c9]
        exact ⟨fun h => absurd h (by decide), fun _ => k2 hr s' F'⟩
      | some o =>
        cases ho : o with
        | none => rw [hr, ho] at hR; exact absurd rfl (HuR_some q1 hp hR)
        | some b =>
          rw [ho] at hr
          rw [hr] at B
          obtain ⟨c9, -, n1, n2, v41, -, -, -, w9⟩ := B
          obtain ⟨-, k9⟩ := k1 b hr
          obtain ⟨k3, k4⟩ := k9 s' F'
          rw [c9, v41, lt_of (by omega) (by omega), vp_of (by omega), nn_of (by omega)]
          refine ⟨fun _ => ⟨fun hi => ⟨by omega, ?_⟩, fun hi => k4 hi⟩, fun h => absurd rfl h⟩
          rw [(w9 i hi).1]
          exact k3 hi
    refine x_hullNow hN hs h138 hp hR (fun b hb s' F B => ?_) (fun hr s' F => ?_)
    · have hNs : 201 ≤ sN s' := Nat.le_trans hN F.1
      obtain ⟨hs', g'⟩ := Hs_W (k := 0) (Fr_mo F (fun _ _ h => Or.inl h) (Nat.le_refl _) (Nat.le_refl _)) hN wHX_n hs
      obtain ⟨n1, n2, v23, -, -, w9⟩ := B
      have main : w_X0_best_b45 (fun s r => w_X4_best s (Int32.ofNat p) (Int32.ofNat i) (fun s' r' => (r = r' → K s') ∧ (¬ r = r' → E s'))) s' (Int32.ofNat i) (ib (decide (i < b.1))) := by
        unfold w_X0_best_b45
        refine needWI (k := 2) (M := fun s Ψ => w_X4_best s (Int32.ofNat p) (Int32.ofNat i) Ψ) hI hK' (by decide) wHX_Q F (fun hc => ?_) (fun hc s2 f2 Φ h => ?_)
        · have hib := of_decide_eq_true hc
          rw [vp_of (by omega), nn_of (by omega), (w9 i hib).1]
          refine ⟨by omega, ?_⟩
          refine hm s' hNs hs' g' _ (fun b' hb' => ?_) (fun hr => by rw [hb] at hr; cases hr)
          rw [hb] at hb'
          cases hb'
          exact ⟨n2, fun s3 f3 => ⟨fun _ => ⟨fun _ => hK' _ (Inv_q hI (Fr_tr (x := 0) (y := 0) (Fr_mo F wHX_Q (Nat.le_refl _) (Nat.le_refl _)) (Fr_mo f3 wHm_Q (Nat.le_refl _) (Nat.le_refl _))) (by omega) (by omega)), fun h => absurd rfl h⟩, fun h => absurd hib h⟩⟩
        · have hib := of_decide_eq_false hc
          obtain ⟨hs2, g2⟩ := Hs_W f2 hN wHX_n hs
          have hN2 : 201 ≤ sN s2 := Nat.le_trans hN f2.1
          refine hm s2 hN2 hs2 g2 Φ (fun b' hb' => ?_) (fun hr => by rw [hb] at hr; cases hr)
          rw [hb] at hb'
          cases hb'
          exact ⟨n2, fun s3 f3 => ⟨fun h => absurd h hib, fun _ => m_errQ (k := 2) (by decide) (Fr_mo f3 wHm_Q (Nat.le_refl _) (Nat.le_refl _)) hN2 h⟩⟩
      rw [v23, le_of (by omega) (by omega)]
      refine ⟨fun h => ?_, fun h => ?_⟩
      · rw [decide_eq_false (show ¬ i < b.1 by omega)] at main; exact main
      · rw [decide_eq_true (show i < b.1 by omega)] at main; exact main
    · refine bigI (M := fun s Ψ => w_X4_best s (Int32.ofNat p) (Int32.ofNat i) Ψ) hI hK' wHX_Q F (fun s2 f2 Φ h => ?_)
      obtain ⟨hs2, g2⟩ := Hs_W f2 hN wHX_n hs
      have hN2 : 201 ≤ sN s2 := Nat.le_trans hN f2.1
      refine hm s2 hN2 hs2 g2 Φ (fun b' hb' => by rw [hr] at hb'; cases hb') (fun _ s3 f3 => ?_)
      exact m_errQ (k := 6) (by decide) (Fr_mo f3 wHm_Q (Nat.le_refl _) (Nat.le_refl _)) hN2 h
  · show w_X4_best s2 _ _ _
    unfold w_X4_best w_X4_best_b20
    rw [pe_X4_isPoint ((q_at f2 hN (by omega) (nQ_177 (by omega)) (by omega)).1.trans q5) ((q_at f2 hN (by omega) (nQ_177 (by omega)) (by omega)).1.trans q6) q1 q2, ib_z]
    refine ⟨fun _ => h, fun g1 => ?_⟩
    rw [pe_X4_isIn, ib_nz, ib_z]
    refine ⟨fun g4 => ?_, fun _ => h⟩
    rcases b_or hc with c | c
    · exact absurd c g1
    · rw [c] at g4; cases g4
theorem o_weight {b : Nat} {st : St} {p1 p2 p3 : Int32} {K E : St → Prop} (hI : Inv (b + 1) st) (hK' : ∀ s, Inv b s → K s) : w_X0_weight st p1 p2 p3 (fun s r => w_X4_weight s p1 p2 p3 (fun s' r' => (r = r' → K s') ∧ (¬ r = r' → E s'))) := by
  obtain ⟨hN, hc1, hc2⟩ := Rm1 hI
  obtain ⟨K', G, M, N, hs⟩ := Hs_of hI
  have hh := hs
  obtain ⟨q1, q2, q3, q4, q5, q6, q7, q8, q9, q10, q11, q12, q13, q14, q15, q16⟩ := hh
  have hp15 := pt15 q1 q2
  have h138 : pR st 138 = (0, 1) := by obtain ⟨a1, a2⟩ := iNt hI; unfold pR; rw [a1, a2]
  refine e_weight ?_
  rw [q13, sub1_64 (by omega) (by omega)]
  unfold w_X0_weight_b30
  refine needL (M := fun s Ψ => w_X4_weight s p1 p2 p3 Ψ) hI hK' (by decide) (fun hc => ?_) (fun hc s2 f2 Φ h => ?_)
  · obtain ⟨h1, h23⟩ := Bool.and_eq_true_iff.mp hc
    obtain ⟨h2, h3⟩ := Bool.and_eq_true_iff.mp h23
    clear hc h23
    obtain ⟨p, g1, rfl⟩ := inB_nat (m := ptN K' G - 1) (by omega) rfl h1
    obtain ⟨i, g2, rfl⟩ := inB_nat (m := 2) (by omega) rfl h2
    have hp : p < ptN K' G := by omega
    obtain ⟨r, hR⟩ := HuR_ex (K := K') (G := G) (M := M) (N := N) (p := p) (f := gmF st) q1 q2 K' 1 (some none) (by omega) (by omega)
    have hm : ∀ s, 201 ≤ sN s → Hs s K' G M N → gmF s = gmF st → ∀ Φ : St → Int64 → Prop, (∀ b, r = some (some b) → ∀ s3, Fr wHm 0 0 s s3 → (i < b.1 → Φ s3 (if p3 = 0 then (wLo K' G p b.1 (gT b.2.1) i).1 else (wLo K' G p b.1 (gT b.2.1) i).2)) ∧ (¬ i < b.1 → w_X4_findsFar s3 2 Φ)) → (r = none → ∀ s3, Fr wHm 0 0 s s3 → w_X4_findsFar s3 6 Φ) → w_X4_weight s (Int32.ofNat p) (Int32.ofNat i) p3 Φ := fun s hNs hss gs Φ k1 k2 => by
      unfold w_X4_weight
      rw [pe_X4_isPoint hss.2.2.2.2.1 hss.2.2.2.2.2.1 q1 q2, h1, ib_z]
      refine ⟨fun h => (by cases h), fun _ => ?_⟩
      rw [pe_X4_isIn, h2, ib_z]
      refine ⟨fun h => (by cases h), fun _ => ?_⟩
      rw [pe_X4_isPart, h3, ib_nz, ib_z]
      refine ⟨fun _ => m_hullRun hNs hss hp (by rw [gs]; exact hR) (fun s' F' B e1 e2 => ?_), fun h => (by cases h)⟩
      cases hr : r with
      | none =>
        rw [hr] at B
        have c9 : sI s' 175 20 = 1 := B
        rw [c9]
        exact ⟨fun h => absurd h (by decide), fun _ => k2 hr s' F'⟩
      | some o =>
        cases ho : o with
        | none => rw [hr, ho] at hR; exact absurd rfl (HuR_some q1 hp hR)
        | some b =>
          rw [ho] at hr
          rw [hr] at B
          obtain ⟨c9, -, n1, n2, v41, -, -, d9, w9⟩ := B
          have k9 := k1 b hr
          rw [c9, v41, lt_of (by omega) (by omega), vp_of (by omega), nn_of (by omega)]
          refine ⟨fun _ => ⟨fun hi => ⟨by omega, ?_⟩, fun hi => (k9 s' F').2 hi⟩, fun h => absurd rfl h⟩
          refine s_lowest (c := false) c9 (fun _ => by omega) (fun s5 f5 c5 l5 => ?_)
          have l6 := l5 rfl
          rw [(w9 i hi).2] at l6
          have k3 := (k9 s5 (Fr_tr (x := 0) (y := 0) F' (Fr_mo f5 (fun _ _ h => Or.inl (Or.inr (Or.inr (Or.inl h)))) (Nat.le_refl _) (Nat.le_refl _)))).1 hi
          have v18 : sL s5 175 18 = (wLo K' G p b.1 (gT b.2.1) i).1 := by rw [← l6]
          have v19 : sL s5 175 19 = (wLo K' G p b.1 (gT b.2.1) i).2 := by rw [← l6]
          rw [v18, v19]
          refine ⟨fun hp2 => ?_, fun hp2 => ?_⟩
          · rw [if_neg hp2] at k3; exact k3
          · rw [if_pos hp2] at k3; exact k3
    refine x_hullNow hN hs h138 hp hR (fun b hb s' F B => ?_) (fun hr s' F => ?_)
    · have hNs : 201 ≤ sN s' := Nat.le_trans hN F.1
      obtain ⟨hs', g'⟩ := Hs_W (k := 0) (Fr_mo F (fun _ _ h => Or.inl h) (Nat.le_refl _) (Nat.le_refl _)) hN wHX_n hs
      obtain ⟨n1, n2, v23, -, -, w9⟩ := B
      have main : w_X0_weight_b53 (fun s r => w_X4_weight s (Int32.ofNat p) (Int32.ofNat i) p3 (fun s' r' => (r = r' → K s') ∧ (¬ r = r' → E s'))) s' (Int32.ofNat i) p3 (ib (decide (i < b.1))) := by
        unfold w_X0_weight_b53
        refine needWL (k := 2) (M := fun s Ψ => w_X4_weight s (Int32.ofNat p) (Int32.ofNat i) p3 Ψ) hI hK' (by decide) wHX_Q F (fun hc => ?_) (fun hc s2 f2 Φ h => ?_)
        · have hib := of_decide_eq_true hc
          have v1 : sL s' (165 + 2 * i) 0 = (wLo K' G p b.1 (gT b.2.1) i).1 := congrArg Prod.fst (w9 i hib).2
          have v2 : sL s' (165 + 2 * i) 1 = (wLo K' G p b.1 (gT b.2.1) i).2 := congrArg Prod.snd (w9 i hib).2
          have fin : ∀ x, x = (if p3 = 0 then (wLo K' G p b.1 (gT b.2.1) i).1 else (wLo K' G p b.1 (gT b.2.1) i).2) → w_X4_weight s' (Int32.ofNat p) (Int32.ofNat i) p3 (fun s'' r' => (x = r' → K s'') ∧ (¬ x = r' → E s'')) := fun x hx => by
            refine hm s' hNs hs' g' _ (fun b' hb' s3 f3 => ?_) (fun hr => by rw [hb] at hr; cases hr)
            rw [hb] at hb'
            cases hb'
            exact ⟨fun _ => ⟨fun _ => hK' _ (Inv_q hI (Fr_tr (x := 0) (y := 0) (Fr_mo F wHX_Q (Nat.le_refl _) (Nat.le_refl _)) (Fr_mo f3 wHm_Q (Nat.le_refl _) (Nat.le_refl _))) (by omega) (by omega)), fun h => absurd hx h⟩, fun h => absurd hib h⟩
          rw [vp_of (by omega), nn_of (by omega)]
          unfold w_X2_part
          rw [v1, v2]
          exact ⟨by omega, fun hp2 => fin _ (by rw [if_neg hp2]), fun hp2 => fin _ (by rw [if_pos hp2])⟩
        · have hib := of_decide_eq_false hc
          obtain ⟨hs2, g2⟩ := Hs_W f2 hN wHX_n hs
          have hN2 : 201 ≤ sN s2 := Nat.le_trans hN f2.1
          refine hm s2 hN2 hs2 g2 Φ (fun b' hb' s3 f3 => ?_) (fun hr => by rw [hb] at hr; cases hr)
          rw [hb] at hb'
          cases hb'
          exact ⟨fun h => absurd h hib, fun _ => m_errQL (k := 2) (by decide) (Fr_mo f3 wHm_Q (Nat.le_refl _) (Nat.le_refl _)) hN2 h⟩
      rw [v23, le_of (by omega) (by omega)]
      refine ⟨fun h => ?_, fun h => ?_⟩
      · rw [decide_eq_false (show ¬ i < b.1 by omega)] at main; exact main
      · rw [decide_eq_true (show i < b.1 by omega)] at main; exact main
    · refine bigL (M := fun s Ψ => w_X4_weight s (Int32.ofNat p) (Int32.ofNat i) p3 Ψ) hI hK' wHX_Q F (fun s2 f2 Φ h => ?_)
      obtain ⟨hs2, g2⟩ := Hs_W f2 hN wHX_n hs
      have hN2 : 201 ≤ sN s2 := Nat.le_trans hN f2.1
      refine hm s2 hN2 hs2 g2 Φ (fun b' hb' => by rw [hr] at hb'; cases hb') (fun _ s3 f3 => ?_)
      exact m_errQL (k := 6) (by decide) (Fr_mo f3 wHm_Q (Nat.le_refl _) (Nat.le_refl _)) hN2 h
  · show w_X4_weight s2 _ _ _ _
    unfold w_X4_weight w_X4_weight_b27
    rw [pe_X4_isPoint ((q_at f2 hN (by omega) (nQ_177 (by omega)) (by omega)).1.trans q5) ((q_at f2 hN (by omega) (nQ_177 (by omega)) (by omega)).1.trans q6) q1 q2, ib_z]
    refine ⟨fun _ => h, fun g1 => ?_⟩
    have t1 : inB p1.toInt64 0 (Int64.ofInt ((ptN K' G - 1 : Nat) : Int)) = true := by
      cases hq : inB p1.toInt64 0 (Int64.ofInt ((ptN K' G - 1 : Nat) : Int))
      · exact absurd hq g1
      · rfl
    rw [t1, Bool.true_and] at hc
    rw [pe_X4_isIn, ib_z]
    refine ⟨fun _ => h, fun g2 => ?_⟩
    rw [pe_X4_isPart, ib_nz, ib_z]
    refine ⟨fun g4 => ?_, fun _ => h⟩
    rcases b_or hc with c | c
    · exact absurd c g2
    · rw [c] at g4; cases g4
