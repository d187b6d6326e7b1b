/-! PLAIN LAW, 42: values of points: the reference; value, plan -/
set_option maxRecDepth 100000
theorem gm_eq {st s : St} {W : Nat → Nat → Prop} {x y : Nat} (hF : Fr W x y st s) (hN : 201 ≤ sN st) (hW : ∀ j, ¬ W 177 j) : gmF s = gmF st := by
  funext g r c
  exact (fr_at hF (Or.inl (by omega)) (hW _)).1
theorem byR_low {v t : Int64} {G : Nat} (hG : 1 ≤ G ∧ G ≤ 4) (h1 : 1 ≤ t.toInt) (h2 : t.toInt ≤ 3303478080000) (h3 : v.toInt.natAbs ≤ 471736669824000000) : byR (lowR v t) ((Int32.ofNat G).toInt64, 1) = some (lowR v (t * (Int32.ofNat G).toInt64)) := by
  obtain ⟨l1, l2, l3, l4⟩ := low_pos (u := v) (w := t) (by omega)
  have e1 : (1 : Int64).toInt = 1 := by decide
  have eG : ((Int32.ofNat G).toInt64).toInt = (G : Int) := t64n (by omega)
  have tG : (t * (Int32.ofNat G).toInt64).toInt = t.toInt * (G : Int) := by
    rw [tmul, eG]; apply bm_fit
    rcases (by omega : G = 1 ∨ G = 2 ∨ G = 3 ∨ G = 4) with rfl | rfl | rfl | rfl <;> (unfold fit; omega)
  generalize lowR v t = p at *
  have wG : fit (p.2.toInt * (G : Int)) ∧ 0 < p.2.toInt * (G : Int) := by
    rcases (by omega : G = 1 ∨ G = 2 ∨ G = 3 ∨ G = 4) with rfl | rfl | rfl | rfl <;> (unfold fit; omega)
  have k1 : fit (p.1.toInt * (1 : Int64).toInt) := by rw [e1, Int.mul_one]; exact lfit _
  have k2 : fit (p.2.toInt * ((Int32.ofNat G).toInt64).toInt) := by rw [eG]; exact wG.1
  have r2 : (p.2 * (Int32.ofNat G).toInt64).toInt = p.2.toInt * (G : Int) := by rw [tmul, bm_fit k2, eG]
  unfold byR
  rw [mulO_t k1, bd_s, mulO_t k2, bd_s, isR_pos (by rw [r2]; exact wG.2)]
  congr 1
  refine low_cg (by rw [r2]; exact wG.2) ?_ ?_
  · rw [tG]; rcases (by omega : G = 1 ∨ G = 2 ∨ G = 3 ∨ G = 4) with rfl | rfl | rfl | rfl <;> omega
  · rw [tG, r2, tmul, e1, Int.mul_one, bm_fit (lfit _)]
    generalize p.1.toInt = a at *
    generalize p.2.toInt = b at *
    grind
/-- the reference's value of a point: it lies in (175, 18), (175, 19) -/
theorem m_u {st : St} {K G M N p : Nat} {c : Bool} {Φ : St → Prop} (hN : 201 ≤ sN st) (h : Hs st K G M N) (hp : p < ptN K G) (hc : sI st 175 20 = ib c) (hm : c = false → Mm st K G M N (gmF st)) (hΦ : ∀ s, Fr wU 0 0 st s → sI s 175 20 = ib c → (c = false → (sL s 175 18, sL s 175 19) = uR K G M N p (gmF st) ∧ Mm s K G M N (gmF st)) → Φ s) : w_X4_u st (Int32.ofNat p) Φ := by
  have hb := av_bd h hp
  have hh := h
  obtain ⟨q1, q2, q3, q4, q5, q6, q7, q8, q9, q10, q11, q12, q13, q14, q15, q16⟩ := hh
  have hp15 := pt15 q1 q2
  have h45 : ∀ s, Fr wU 0 0 st s → sI s 175 20 = ib c → (c = false → (sL s 194 p, sL s 195 p) = uR K G M N p (gmF st) ∧ Mm s K G M N (gmF st)) → w_X4_u_b45 Φ s (Int32.ofNat p) := fun s F hs hv => by
    unfold w_X4_u_b45 w_X4_is
    rw [vp_of (by omega), nn_of (by omega)]
    refine ⟨by omega, ?_⟩
    rintro _ rfl _ rfl
    refine hΦ _ (Fr_L (Fr_L F (Or.inl (Or.inr (Or.inr (Or.inl ⟨rfl, Or.inl rfl⟩))))) (Or.inl (Or.inr (Or.inr (Or.inl ⟨rfl, Or.inr (Or.inl rfl)⟩))))) (by rw [gI_pL, gI_pL]; exact hs) (fun e => ?_)
    obtain ⟨v1, v2⟩ := hv e
    refine ⟨?_, fun p' hp' => ?_⟩
    · rw [gL_pL, if_neg (by omega), gL_pL, if_pos ⟨rfl, rfl⟩, gL_pL, if_pos ⟨rfl, rfl⟩]; exact v1
    · rw [gI_pL, gI_pL, gL_pL, if_neg (by omega), gL_pL, if_neg (by omega), gL_pL, if_neg (by omega), gL_pL, if_neg (by omega)]; exact v2 p' hp'
  unfold w_X4_u
  rw [vp_of (by omega), nn_of (by omega)]
  refine ⟨by omega, fun hk => h45 st Fr_rf hc (fun e => ⟨(hm e p hp).resolve_left hk, hm e⟩), fun hk => ?_⟩
  refine s_averages hN q1 q2 q3 q4 hp q5 q6 q7 q8 (fun s2 f2 T2 => ?_)
  have hN2 : 201 ≤ sN s2 := Nat.le_trans hN f2.1
  refine m_kernel hN2 (by omega) (by omega) T2 (hBd_ok hb) (fun n a c' hf s hF => ?_) (found (by omega) (by omega) hb)
  obtain ⟨g1, g2, g3, g4, g5, g6⟩ := fsN_ok (by omega) 4 1 n a c' (by omega) hf
  obtain ⟨t1, t2, t3, t4⟩ := kT_pos g1 hb (set_lt g2 g4) (set_lt g3 g5) g6
  obtain ⟨f, v29, v30, -⟩ := hF
  have F : Fr wU 0 0 st s := Fr_tr (x := 0) (y := 0) (Fr_mo f2 (fun _ _ h => Or.inl h) (Nat.le_refl _) (Nat.le_refl _)) (Fr_mo f (fun _ _ h => Or.inr (Or.inl h)) (Nat.le_refl _) (Nat.le_refl _))
  have hNs : 201 ≤ sN s := Nat.le_trans hN F.1
  have old : ∀ {s'}, Fr (fun a j => wTm a j ∨ wKy a j ∨ wR a j) 0 0 st s' → ∀ a j, a < 201 → (194 ≤ a ∧ a ≤ 196) ∨ a = 177 → Same st s' a j := fun {s'} F' a j ha hb => fr_at F' (Or.inl (by omega)) (by unfold wTm wKy wKm wR; omega)
  have Fs : Fr (fun a j => wTm a j ∨ wKy a j ∨ wR a j) 0 0 st s := Fr_tr (x := 0) (y := 0) (Fr_mo f2 (fun _ _ h => Or.inl h) (Nat.le_refl _) (Nat.le_refl _)) (Fr_mo f (fun _ _ h => Or.inr (Or.inl h)) (Nat.le_refl _) (Nat.le_refl _))
  have hcs : sI s 175 20 = ib c := by
    rw [(fr_at f (Or.inl (by omega)) (by unfold wKy wKm; omega)).1, (fr_at f2 (Or.inl (by omega)) (by unfold wTm; omega)).1]; exact hc
  unfold w_X4_byParts
  rw [v30, v29]
  refine s_lowest hcs (fun _ => by omega) (fun s3 f3 c3 l3 => ?_)
  have Fs3 : Fr (fun a j => wTm a j ∨ wKy a j ∨ wR a j) 0 0 st s3 := Fr_tr (x := 0) (y := 0) Fs (Fr_mo f3 (fun _ _ h => Or.inr (Or.inr h)) (Nat.le_refl _) (Nat.le_refl _))
  have eG : sI s3 177 1 = Int32.ofNat G := (old Fs3 177 1 (by omega) (Or.inr rfl)).1.trans q6
  rw [eG]
  have hTp : 0 < (kTot (avT K G p (gmF st)) n (gD a) (gD c')).toInt := by omega
  refine s_X4_by (x := (sL s3 175 18, sL s3 175 19)) (y := ((Int32.ofNat G).toInt64, 1)) c3 (fun e => by rw [l3 e]; exact (low_pos hTp).1) (fun e => by show ((Int32.ofNat G).toInt64).toInt ≠ 0; rw [t64n (by omega)]; omega) (fun s4 ⟨f4, c4, l4⟩ => ?_)
  have Fs4 : Fr (fun a j => wTm a j ∨ wKy a j ∨ wR a j) 0 0 st s4 := Fr_tr (x := 0) (y := 0) Fs3 (Fr_mo f4 (fun _ _ h => Or.inr (Or.inr h)) (Nat.le_refl _) (Nat.le_refl _))
  have F4 : Fr wU 0 0 st s4 := Fr_mo Fs4 (fun a j h => by rcases h with h | h | h; exact Or.inl h; exact Or.inr (Or.inl h); exact Or.inr (Or.inr (Or.inl h))) (Nat.le_refl _) (Nat.le_refl _)
  have hby : c = false → byR (sL s3 175 18, sL s3 175 19) ((Int32.ofNat G).toInt64, 1) = some (uR K G M N p (gmF st)) := fun e => by
    rw [l3 e, byR_low q2 (by omega) t2 (by omega)]
    unfold uR
    rw [hf]
  have c4' : sI s4 175 20 = ib c := by
    rw [c4]
    cases c with
    | true => rfl
    | false => rw [hby rfl]; rfl
  rintro _ rfl _ rfl _ rfl
  have e19 : ∀ v, sL (putL s4 194 p v) 175 19 = sL s4 175 19 := fun v => by rw [gL_pL, if_neg (by omega)]
  rw [e19, vn1]
  refine h45 _ (Fr_I (Fr_L (Fr_L F4 (Or.inl (Or.inr (Or.inr (Or.inr ⟨Or.inl rfl, by omega⟩))))) (Or.inl (Or.inr (Or.inr (Or.inr ⟨Or.inr (Or.inl rfl), by omega⟩))))) (Or.inl (Or.inr (Or.inr (Or.inr ⟨Or.inr (Or.inr rfl), by omega⟩))))) (by rw [gI_pI, if_neg (by omega), gI_pL, gI_pL]; exact c4') (fun e => ?_)
  have hv := l4 e _ (hby e)
  have hval : (sL (putI (putL (putL s4 194 p (sL s4 175 18)) 195 p (sL s4 175 19)) 196 p 1) 194 p, sL (putI (putL (putL s4 194 p (sL s4 175 18)) 195 p (sL s4 175 19)) 196 p 1) 195 p) = uR K G M N p (gmF st) := by
    rw [gL_pI, gL_pI, gL_pL, if_neg (by omega), gL_pL, if_pos ⟨rfl, rfl⟩, gL_pL, if_pos ⟨rfl, rfl⟩]; exact hv
  refine ⟨hval, fun p' hp' => ?_⟩
  by_cases e9 : p' = p
  · subst e9; exact Or.inr hval
  · rw [gI_pI, if_neg (by omega), gI_pL, gI_pL, gL_pI, gL_pI, gL_pL, if_neg (by omega), gL_pL, if_neg (by omega), gL_pL, if_neg (by omega), gL_pL, if_neg (by omega), (old Fs4 196 p' (by omega) (by omega)).1, (old Fs4 194 p' (by omega) (by omega)).2.1, (old Fs4 195 p' (by omega) (by omega)).2.1]
    exact hm e p' hp'
theorem e_value {st : St} {p1 p2 : Int32} {Φ : St → Int64 → Prop} (h : w_X0_value_b23 Φ st p1 p2 (ib (inB p1.toInt64 0 ((sI st 2 9) - 1).toInt64 && inB p2.toInt64 0 1))) : w_X0_value st p1 p2 Φ := by
  unfold w_X0_value w_X0_value_b22
  simp only [pe_X1_isPoint, pe_X0_isPart, ib_z]
  revert h
  cases inB p1.toInt64 0 ((sI st 2 9) - 1).toInt64 <;> cases inB p2.toInt64 0 1 <;> simp [ib]
theorem nU {j : Nat} : ¬ wU 177 j := by unfold wU wTm wKy wKm wR; omega
theorem Mm_0 {st : St} {K G M N : Nat} {f : Nat → Nat → Nat → Int32} (hp : ptN K G ≤ 15) (h : ∀ p, p < 15 → sI st 196 p = 0) : Mm st K G M N f := fun p hp2 => Or.inl (h p (by omega))
theorem o_value {b : Nat} {st : St} {p1 p2 : Int32} {K E : St → Prop} (hI : Inv (b + 1) st) (hK : ∀ s, Inv b s → K s) : w_X0_value st p1 p2 (fun s r => w_X4_value s p1 p2 (fun s' r' => (r = r' → K s') ∧ (¬ r = r' → E s'))) := by
  obtain ⟨hN, hc1, hc2⟩ := Rm1 hI
  obtain ⟨K', G, M, N, hs⟩ := Hs_of hI
  have hh := hs
  obtain ⟨q1, q2, q3, q4, q5, q6, q7, q8, q9, q10, q11, q12, q13, q14, q15, q16⟩ := hh
  have hp15 := pt15 q1 q2
  refine e_value ?_
  rw [q13, sub1_64 (by omega) (by omega)]
  unfold w_X0_value_b23
  refine needL (M := fun s Ψ => w_X4_value s p1 p2 Ψ) hI hK (by decide) (fun hc => ?_) (fun hc s2 f2 Φ h => ?_)
  · obtain ⟨h1, h2⟩ := Bool.and_eq_true_iff.mp hc
    clear hc
    obtain ⟨p, g1, rfl⟩ := inB_nat (m := ptN K' G - 1) (by omega) rfl h1
    have hp : p < ptN K' G := by omega
    refine x_worthOf hN hs hp (fun sx fx vx => ?_)
    have FQ : Fr Qt 0 0 st sx := Fr_mo fx (fun a j h => Qt_x (by unfold wTb wKx wSv at h; omega)) (Nat.le_refl _) (Nat.le_refl _)
    obtain ⟨hsx, -⟩ := Hs_q fx hN (fun a j h hw => by unfold wTb wKx wSv at hw; omega) hs
    have hNx : 201 ≤ sN sx := Nat.le_trans hN fx.1
    have gx : gmF sx = gmF st := gm_eq fx hN (fun j hw => by unfold wTb wKx wSv at hw; omega)
    -- the reference
    have hm : ∀ Φ : St → Int64 → Prop, (∀ s3, Fr Qt 0 0 sx s3 → Φ s3 (if p2 = 0 then (uR K' G M N p (gmF st)).1 else (uR K' G M N p (gmF st)).2)) → w_X4_value sx (Int32.ofNat p) p2 Φ := fun Φ hΦ => by
      unfold w_X4_value
      rw [pe_X4_isPoint hsx.2.2.2.2.1 hsx.2.2.2.2.2.1 q1 q2, h1, ib_z]
      refine ⟨fun h => (by cases h), fun _ => ?_⟩
      rw [pe_X4_isPart, h2, ib_nz, ib_z]
      refine ⟨fun _ => m_begins (fun s5 f5 c5 z5 => ?_), fun h => (by cases h)⟩
      obtain ⟨hs5, -⟩ := Hs_q f5 hNx (fun a j h hw => by omega) hsx
      have hN5 : 201 ≤ sN s5 := Nat.le_trans hNx f5.1
      have g5 : gmF s5 = gmF st := (gm_eq f5 hNx (fun j hw => by omega)).trans gx
      have F5 : Fr Qt 0 0 sx s5 := Fr_mo f5 (fun a j h => Qt_x (by omega)) (Nat.le_refl _) (Nat.le_refl _)
      refine m_u (c := false) hN5 hs5 hp c5 (fun _ => Mm_0 hp15.1 z5) (fun s6 f6 c6 v6 => ?_)
      obtain ⟨v7, -⟩ := v6 rfl
      rw [g5] at v7
      have F6 : Fr Qt 0 0 sx s6 := Fr_tr (x := 0) (y := 0) F5 (Fr_mo f6 wU_Q (Nat.le_refl _) (Nat.le_refl _))
      have h9 := hΦ s6 F6
      rw [← v7] at h9
      refine ⟨fun hp2 => ?_, fun hp2 => ?_⟩
      · rw [if_neg hp2] at h9; exact h9
      · rw [if_pos hp2] at h9; exact h9
    have e0 : sL sx (149 + p) 0 = (uR K' G M N p (gmF st)).1 := congrArg Prod.fst vx
    have e1 : sL sx (149 + p) 1 = (uR K' G M N p (gmF st)).2 := congrArg Prod.snd vx
    unfold w_X2_part
    refine ⟨fun hp2 => ?_, fun hp2 => ?_⟩
    · rw [e1]
      refine hm _ (fun s3 f3 => ?_)
      rw [if_neg hp2]
      exact ⟨fun _ => hK _ (Inv_q hI (Fr_tr (x := 0) (y := 0) FQ f3) (by omega) (by omega)), fun h => absurd rfl h⟩
    · rw [e0]
      refine hm _ (fun s3 f3 => ?_)
      rw [if_pos hp2]
      exact ⟨fun _ => hK _ (Inv_q hI (Fr_tr (x := 0) (y := 0) FQ f3) (by omega) (by omega)), fun h => absurd rfl h⟩
  · show w_X4_value s2 _ _ _
    unfold w_X4_value w_X4_value_b15
    rw [pe_X4_isPoint ((q_at f2 hN (by omega) (nQ_177 (by omega)) (by omega)).1.trans q5) ((q_at f2 hN (by omega) (nQ_177 (by omega)) (by omega)).1.trans q6) q1 q2, ib_z]
    refine ⟨fun _ => h, fun g1 => ?_⟩
    rw [pe_X4_isPart, ib_nz, ib_z]
    refine ⟨fun g4 => ?_, fun _ => h⟩
    rcases b_or hc with c | c
    · exact absurd c g1
    · rw [c] at g4; cases g4
