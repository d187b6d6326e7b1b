/-! PLAIN LAW, 61: gap -/
set_option maxRecDepth 100000
/-- the value of one round alone, on a point -/
def onR (K G M N p : Nat) (f : Nat → Nat → Nat → Int32) : Int64 × Int64 := match fsN (chT K G M p f) (hK K M) N 4 1 with
  | some (n, a, c) => lowR (kWo (chT K G M p f) n (gD a) (gD c)) (kTot (chT K G M p f) n (gD a) (gD c) * (Int32.ofNat G).toInt64)
  | none => (0, 1)
theorem x_onceAt {st : St} {K G M N p : Nat} {Φ : St → Nat → Prop} {Φw : St → Nat → Prop} {Φa : St → Prop} (hN : 201 ≤ sN st) (hs : Hs st K G M N) (hp : p < ptN K G) (h : ∀ s, Fr (fun a j => wTb a j ∨ wKx a j ∨ (a = 143 ∧ j < 2)) 0 0 st s → pR s 143 = onR K G M N p (gmF st) → 0 < (onR K G M N p (gmF st)).2.toInt → Φ s 143) : w_X0_onceAt st (Int32.ofNat p) Φ Φw Φa := by
  have hh := hs
  obtain ⟨q1, q2, q3, q4, q5, q6, q7, q8, q9, q10, q11, q12, q13, q14, q15, q16⟩ := hh
  have hk := hK_b (K := K) q3
  have hb := ch_bd hs hp
  unfold w_X0_onceAt
  refine s_laysChoices hN hs hp (fun s2 f2 T2 => ?_)
  have hN2 : 201 ≤ sN s2 := Nat.le_trans hN f2.1
  refine x_kernel hN2 hk.2 (by omega) T2 (fun n a c hf s10 hF => ?_) (found hk (by omega) hb)
  obtain ⟨g1, g2, g3, g4, g5, g6⟩ := fsN_ok (by omega) 4 1 n a c (by omega) hf
  obtain ⟨t1, t2, t3, t4⟩ := kT_pos g1 hb (set_lt g2 g4) (set_lt g3 g5) g6
  obtain ⟨k1, k2, k3⟩ := kTG q2 t1 t2
  obtain ⟨f10, v16, v17, v3, v4⟩ := hF
  have F10 : Fr (fun a j => wTb a j ∨ wKx a j ∨ (a = 143 ∧ j < 2)) 0 0 st s10 := Fr_tr (x := 0) (y := 0) (Fr_mo f2 (fun _ _ h => Or.inl h) (Nat.le_refl _) (Nat.le_refl _)) (Fr_mo f10 (fun _ _ h => Or.inr (Or.inl h)) (Nat.le_refl _) (Nat.le_refl _))
  have e21 : sI s10 2 1 = Int32.ofNat G := by
    rw [(fr_at F10 (Or.inl (by omega)) (by unfold wTb wKx wSv; omega)).1]; exact q10
  have hpos : 0 < (kTot (chT K G M p (gmF st)) n (gD a) (gD c) * (Int32.ofNat G).toInt64).toInt := by rw [k1]; omega
  have eo : onR K G M N p (gmF st) = lowR (kWo (chT K G M p (gmF st)) n (gD a) (gD c)) (kTot (chT K G M p (gmF st)) n (gD a) (gD c) * (Int32.ofNat G).toInt64) := by unfold onR; rw [hf]
  rw [v16, v17, e21]
  refine s_X2_is (by omega) (fun v hv => ?_) (fun hv => by rw [isR_pos hpos] at hv; cases hv)
  rw [isR_pos hpos] at hv
  cases hv
  rw [eo] at h
  exact h _ (Fr_P F10 (fun j hj => Or.inr (Or.inr ⟨rfl, hj⟩))) pR_pP (low_pos hpos).1
theorem m_onceRun {s : St} {K G M N p : Nat} {Φ : St → Prop} (hN : 201 ≤ sN s) (hs : Hs s K G M N) (hp : p < ptN K G) (c0 : sI s 175 20 = 0) (h : ∀ s', Fr wU 0 0 s s' → sI s' 175 20 = 0 → (sL s' 175 18, sL s' 175 19) = onR K G M N p (gmF s) → Φ s') : w_X4_once_2 s (Int32.ofNat p) Φ := by
  have q2 := hs.2.1
  have q3 := hs.2.2.1
  have q4 := hs.2.2.2.1
  have hk := hK_b (K := K) q3
  have hb := ch_bd hs hp
  refine s_once_lay hN hs hp (fun s6 f6 T6 => ?_)
  have hN6 : 201 ≤ sN s6 := Nat.le_trans hN f6.1
  refine m_kernel hN6 hk.2 (by omega) T6 (hBd_ok hb) (fun n a c hf s7 hF => ?_) (found hk (by omega) hb)
  obtain ⟨g1, g2, g3, g4, g5, g6⟩ := fsN_ok (by omega) 4 1 n a c (by omega) hf
  obtain ⟨t1, t2, t3, t4⟩ := kT_pos g1 hb (set_lt g2 g4) (set_lt g3 g5) g6
  obtain ⟨f7, w29, w30, -⟩ := hF
  have c7 : sI s7 175 20 = ib false := by
    rw [(fr_at f7 (Or.inl (by omega)) (by unfold wKy wKm; omega)).1, (fr_at f6 (Or.inl (by omega)) (by unfold wTm; omega)).1]; exact c0
  have eG7 : sI s7 177 1 = Int32.ofNat G := by
    rw [(fr_at f7 (Or.inl (by omega)) (by unfold wKy wKm; omega)).1, (fr_at f6 (Or.inl (by omega)) (by unfold wTm; omega)).1]; exact hs.2.2.2.2.2.1
  refine m_byParts (c := false) q2 (Nat.le_trans hN6 f7.1) c7 eG7 w29 w30 t1 t2 (by omega) (fun s8 f8 c8 v8 => ?_)
  refine h s8 (Fr_tr (x := 0) (y := 0) (Fr_mo f6 (fun _ _ h => Or.inl h) (Nat.le_refl _) (Nat.le_refl _)) (Fr_tr (x := 0) (y := 0) (Fr_mo f7 (fun _ _ h => Or.inr (Or.inl h)) (Nat.le_refl _) (Nat.le_refl _)) (Fr_mo f8 (fun _ _ h => Or.inr (Or.inr (Or.inl h))) (Nat.le_refl _) (Nat.le_refl _)))) c8 ?_
  rw [v8 rfl]
  unfold onR
  rw [hf]
theorem e_gap {st : St} {p1 p2 : Int32} {Φ : St → Int64 → Prop} (h : w_X0_gap_b23 Φ st p1 p2 (ib (inB p1.toInt64 0 ((sI st 2 9) - 1).toInt64 && inB p2.toInt64 0 1))) : w_X0_gap st p1 p2 Φ := by
  unfold w_X0_gap w_X0_gap_b22
  simp only [pe_X1_isPoint, pe_X0_isPart, ib_z]
  revert h
  cases inB p1.toInt64 0 ((sI st 2 9) - 1).toInt64 <;> cases inB p2.toInt64 0 1 <;> simp [ib]
def wGp (a j : Nat) : Prop := wHX a j ∨ ((a = 144 ∨ a = 145) ∧ j < 2)
theorem wGp_Q : ∀ a j, wGp a j → Qt a j := fun a j h => by
  rcases h with h | h
  · exact wHX_Q a j h
  · exact Qt_x (by omega)
theorem wGp_n : ∀ a j, wGp a j → (a = 0 ∨ 33 ≤ a) ∧ a ≠ 177 := fun a j h => by
  rcases h with h | h
  · exact wHX_n a j h
  · omega
theorem o_gap {b : Nat} {st : St} {p1 p2 : Int32} {K E : St → Prop} (hI : Inv (b + 1) st) (hK' : ∀ s, Inv b s → K s) : w_X0_gap st p1 p2 (fun s r => w_X4_gap s p1 p2 (fun s' r' => (r = r' → K s') ∧ (¬ r = r' → E s'))) := by
  obtain ⟨hN, hc1, hc2⟩ := Rm1 hI
  obtain ⟨K', G, M, N, hs⟩ := Hs_of hI
  have hh := hs
  obtain ⟨q1, q2, q3, q4, q5, q6, q7, q8, q9, q10, q11, q12, q13, q14, q15, q16⟩ := hh
  have hp15 := pt15 q1 q2
  have h138 : pR st 138 = (0, 1) := by obtain ⟨a1, a2⟩ := iNt hI; unfold pR; rw [a1, a2]
  refine e_gap ?_
  rw [q13, sub1_64 (by omega) (by omega)]
  unfold w_X0_gap_b23
  refine needL (M := fun s Ψ => w_X4_gap s p1 p2 Ψ) hI hK' (by decide) (fun hc => ?_) (fun hc s2 f2 Φ h => ?_)
  · obtain ⟨h1, h2⟩ := Bool.and_eq_true_iff.mp hc
    clear hc
    obtain ⟨p, g1, rfl⟩ := inB_nat (m := ptN K' G - 1) (by omega) rfl h1
    have hp : p < ptN K' G := by omega
    obtain ⟨r, hR⟩ := HuR_ex (K := K') (G := G) (M := M) (N := N) (p := p) (f := gmF st) q1 q2 K' 1 (some none) (by omega) (by omega)
    -- the reference
    have hm : ∀ s, 201 ≤ sN s → Hs s K' G M N → gmF s = gmF st → 0 < (onR K' G M N p (gmF st)).2.toInt → ∀ Φ : St → Int64 → Prop, (∀ b, r = some (some b) → ∀ v, lessR (onR K' G M N p (gmF st)) b.2.2 = some v → ∀ s3, Fr wHm 0 0 s s3 → Φ s3 (if p2 = 0 then v.1 else v.2)) → ((r = none ∨ ∃ b, r = some (some b) ∧ lessR (onR K' G M N p (gmF st)) b.2.2 = none) → ∀ s3, Fr wHm 0 0 s s3 → w_X4_findsFar s3 6 Φ) → w_X4_gap s (Int32.ofNat p) p2 Φ := fun s hNs hss gs po Φ k1 k2 => by
      unfold w_X4_gap
      rw [pe_X4_isPoint hss.2.2.2.2.1 hss.2.2.2.2.2.1 q1 q2, h1, ib_z]
      refine ⟨fun h => (by cases h), fun _ => ?_⟩
      rw [pe_X4_isPart, h2, ib_nz, ib_z]
      refine ⟨fun _ => m_hullRun hNs hss hp (by rw [gs]; exact hR) (fun s' F' B e1 e2 => ?_), fun h => (by cases h)⟩
      intro v43 e43 v45 e45
      have bad : ∀ s3, Fr wHm 0 0 s s3 → sI s3 175 20 = 1 → (r = none ∨ ∃ b, r = some (some b) ∧ lessR (onR K' G M N p (gmF st)) b.2.2 = none) → w_X4_gap_b68 Φ s3 p2 := fun s3 F3 c3 hb => by
        unfold w_X4_gap_b68
        rw [c3]
        exact ⟨fun h => absurd h (by decide), fun _ => k2 hb s3 F3⟩
      cases hr : r with
      | none =>
        rw [hr] at B
        have c9 : sI s' 175 20 = 1 := B
        rw [c9]
        exact ⟨fun _ => bad s' F' c9 (Or.inl hr), fun h => absurd h (by decide)⟩
      | some o =>
        cases ho : o with
        | none => rw [hr, ho] at hR; exact absurd rfl (HuR_some q1 hp hR)
        | some b =>
          rw [ho] at hr
          rw [hr] at B
          obtain ⟨c9, -, -, -, -, v9, pb, -⟩ := B
          have v18 : v43 = b.2.2.1 := by rw [e43, e1, ← v9]
          have v19 : v45 = b.2.2.2 := by rw [e45, e2, ← v9]
          rw [v18, v19, c9]
          refine ⟨fun h => absurd rfl h, fun _ => ?_⟩
          have hNs' : 201 ≤ sN s' := Nat.le_trans hNs F'.1
          obtain ⟨hs', -⟩ := Hs_q F' hNs (fun a j h hw => by have := wHm_c hw; omega) hss
          have gs' : gmF s' = gmF st := (gm_eq F' hNs (fun j hw => by have := wHm_c hw; omega)).trans gs
          refine m_onceRun hNs' hs' hp c9 (fun s59 F59 c59 v59 => ?_)
          rw [gs'] at v59
          have w18 : sL s59 175 18 = (onR K' G M N p (gmF st)).1 := by rw [← v59]
          have w19 : sL s59 175 19 = (onR K' G M N p (gmF st)).2 := by rw [← v59]
          rw [w18, w19]
          refine s_X4_less (c := false) (x := onR K' G M N p (gmF st)) (y := b.2.2) c59 (fun _ => po) (fun _ => pb) (fun s67 ⟨F67, c67, l67⟩ => ?_)
          have FF : Fr wHm 0 0 s s67 := Fr_tr (x := 0) (y := 0) F' (Fr_tr (x := 0) (y := 0) (Fr_mo F59 (fun _ _ h => Or.inl h) (Nat.le_refl _) (Nat.le_refl _)) (Fr_mo F67 (fun _ _ h => Or.inl (Or.inr (Or.inr (Or.inl h)))) (Nat.le_refl _) (Nat.le_refl _)))
          rw [Bool.false_or] at c67
          cases hl : lessR (onR K' G M N p (gmF st)) b.2.2 with
          | none =>
            rw [hl] at c67
            exact bad s67 FF c67 (Or.inr ⟨b, hr, hl⟩)
          | some v =>
            rw [hl] at c67
            have c67' : sI s67 175 20 = 0 := c67
            have l9 := l67 rfl v hl
            have z1 : sL s67 175 18 = v.1 := by rw [← l9]
            have z2 : sL s67 175 19 = v.2 := by rw [← l9]
            have k9 := k1 b hr v hl s67 FF
            unfold w_X4_gap_b68
            rw [c67', z1, z2]
            refine ⟨fun _ => ⟨fun hp2 => ?_, fun hp2 => ?_⟩, fun h => absurd rfl h⟩
            · rw [if_neg hp2] at k9; exact k9
            · rw [if_pos hp2] at k9; exact k9
    have toG : ∀ a j, wHX a j → wGp a j := fun _ _ h => Or.inl h
    refine x_onceAt hN hs hp (fun s31 F31 p31 po => ?_)
    have FG31 : Fr wGp 0 0 st s31 := Fr_mo F31 (fun a j h => by
      rcases h with h | h | h
      · exact Or.inl (Or.inl (Or.inl h))
      · exact Or.inl (Or.inl (Or.inr (Or.inl h)))
      · exact Or.inl (Or.inr (by unfold wHx; omega))) (Nat.le_refl _) (Nat.le_refl _)
    unfold w_X2_as
    intro s63 e63 s64 e64
    have FG64 : Fr wGp 0 0 st s64 := by rw [e64, e63]; exact Fr_L (Fr_L FG31 (Or.inl (Or.inr ⟨Or.inl rfl, by omega⟩))) (Or.inl (Or.inr ⟨Or.inl rfl, by omega⟩))
    have p144 : pR s64 144 = onR K' G M N p (gmF st) := by
      rw [← p31, e64, e63]
      unfold pR
      rw [gL_pL, if_neg (by omega), gL_pL, if_pos ⟨rfl, rfl⟩, gL_pL, if_pos ⟨rfl, rfl⟩, gL_pL, if_neg (by omega)]
    clear e63 e64
    have hN64 : 201 ≤ sN s64 := Nat.le_trans hN FG64.1
    obtain ⟨hs64, g64⟩ := Hs_W (k := 0) (Fr_mo FG64 (fun _ _ h => Or.inl h) (Nat.le_refl _) (Nat.le_refl _)) hN wGp_n hs
    have p138 : pR s64 138 = (0, 1) := (pR_at FG64 (by omega) (fun j hj h => by
      rcases h with h | h
      · have := wHX_c h; omega
      · omega)).trans h138
    have big : (r = none ∨ ∃ b, r = some (some b) ∧ lessR (onR K' G M N p (gmF st)) b.2.2 = none) → ∀ s', Fr wGp 0 0 st s' → jkA s' (fun s44 => w_X0_isFarBig s44 (fun s46 r45 => w_X4_gap s46 (Int32.ofNat p) p2 (fun s' r' => (r45 = r' → K s') ∧ (¬ r45 = r' → E s')))) := fun hb s' F' => by
      refine bigL (M := fun s Ψ => w_X4_gap s (Int32.ofNat p) p2 Ψ) hI hK' wGp_Q F' (fun s2 f2 Φ h => ?_)
      obtain ⟨hs2, g2⟩ := Hs_W f2 hN wGp_n hs
      have hN2 : 201 ≤ sN s2 := Nat.le_trans hN f2.1
      refine hm s2 hN2 hs2 g2 po Φ (fun b' hb' v hv => ?_) (fun _ s3 f3 => m_errQL (k := 6) (by decide) (Fr_mo f3 wHm_Q (Nat.le_refl _) (Nat.le_refl _)) hN2 h)
      rcases hb with hb | ⟨b, hb, hl⟩
      · rw [hb] at hb'; cases hb'
      · rw [hb] at hb'; cases hb'; rw [hl] at hv; cases hv
    refine x_hullNow hN64 hs64 p138 hp (by rw [g64]; exact hR) (fun b hb s' F B => ?_) (fun hr s' F => big (Or.inl hr) s' (Fr_tr (x := 0) (y := 0) FG64 (Fr_mo F toG (Nat.le_refl _) (Nat.le_refl _))))
    have FG : Fr wGp 0 0 st s' := Fr_tr (x := 0) (y := 0) FG64 (Fr_mo F toG (Nat.le_refl _) (Nat.le_refl _))
    obtain ⟨-, -, -, v140, pb, -⟩ := B
    have q144 : pR s' 144 = onR K' G M N p (gmF st) := (pR_at F (by omega) (fun j hj h => by have := wHX_c h; omega)).trans p144
    refine s_X2_less (by rw [q144]; exact po) (by rw [v140]; exact pb) (fun v hv => ?_) (fun hv => ?_)
    · rw [q144, v140] at hv
      have F9 : Fr wGp 0 0 st (putP s' 145 v) := Fr_P FG (fun j hj => Or.inr ⟨Or.inr rfl, hj⟩)
      have p9 : pR (putP s' 145 v) 145 = v := pR_pP
      generalize putP s' 145 v = s9 at F9 p9
      have hN9 : 201 ≤ sN s9 := Nat.le_trans hN F9.1
      obtain ⟨hs9, g9⟩ := Hs_W (k := 0) (Fr_mo F9 (fun _ _ h => Or.inl h) (Nat.le_refl _) (Nat.le_refl _)) hN wGp_n hs
      have z1 : sL s9 145 0 = v.1 := congrArg Prod.fst p9
      have z2 : sL s9 145 1 = v.2 := congrArg Prod.snd p9
      have fin : ∀ x, x = (if p2 = 0 then v.1 else v.2) → w_X4_gap s9 (Int32.ofNat p) p2 (fun s'' r' => (x = r' → K s'') ∧ (¬ x = r' → E s'')) := fun x hx => by
        refine hm s9 hN9 hs9 g9 po _ (fun b' hb' v' hv' s3 f3 => ?_) (fun hbad => ?_)
        · rw [hb] at hb'
          cases hb'
          rw [hv] at hv'
          cases hv'
          exact ⟨fun _ => hK' _ (Inv_q hI (Fr_tr (x := 0) (y := 0) (Fr_mo F9 wGp_Q (Nat.le_refl _) (Nat.le_refl _)) (Fr_mo f3 wHm_Q (Nat.le_refl _) (Nat.le_refl _))) (by omega) (by omega)), fun h => absurd hx h⟩
        · rcases hbad with hbad | ⟨b', hb', hl⟩
          · rw [hb] at hbad; cases hbad
          · rw [hb] at hb'; cases hb'; rw [hv] at hl; cases hl
      unfold w_X2_part
      rw [z1, z2]
      exact ⟨fun hp2 => fin _ (by rw [if_neg hp2]), fun hp2 => fin _ (by rw [if_pos hp2])⟩
    · rw [q144, v140] at hv
      exact big (Or.inr ⟨b, hb, hv⟩) s' FG
  · show w_X4_gap s2 _ _ _
    unfold w_X4_gap w_X4_gap_b15
    rw [pe_X4_isPoint ((q_at f2 hN (by omega) (nQ_177 (by omega)) (by omega)).1.trans q5) ((q_at f2 hN (by omega) (nQ_177 (by omega)) (by omega)).1.trans q6) q1 q2, ib_z]
    refine ⟨fun _ => h, fun g1 => ?_⟩
    rw [pe_X4_isPart, ib_nz, ib_z]
    refine ⟨fun g4 => ?_, fun _ => h⟩
    rcases b_or hc with c | c
    · exact absurd c g1
    · rw [c] at g4; cases g4
