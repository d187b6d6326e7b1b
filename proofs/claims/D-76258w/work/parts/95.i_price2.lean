/-! PLAIN LAW, 64: price, joined -/
set_option maxRecDepth 100000
theorem e_price {st : St} {p1 p2 p3 : Int32} {Φ : St → Int64 → Prop} (h : w_X0_price_b34 Φ st p1 p2 p3 (ib (inB p1.toInt64 0 ((sI st 2 9) - 1).toInt64 && (inB p2.toInt64 0 ((sI st 2 0) - 1).toInt64 && inB p3.toInt64 0 1)))) : w_X0_price st p1 p2 p3 Φ := by
  unfold w_X0_price w_X0_price_b33
  simp only [pe_X1_isPoint, pe_X1_isState, pe_X0_isPart, ib_z]
  revert h
  cases inB p1.toInt64 0 ((sI st 2 9) - 1).toInt64 <;> cases inB p2.toInt64 0 ((sI st 2 0) - 1).toInt64 <;> cases inB p3.toInt64 0 1 <;> simp [ib]
theorem o_price {b : Nat} {st : St} {p1 p2 p3 : Int32} {K E : St → Prop} (hI : Inv (b + 1) st) (hK' : ∀ s, Inv b s → K s) : w_X0_price st p1 p2 p3 (fun s r => w_X4_price s p1 p2 p3 (fun s' r' => (r = r' → K s') ∧ (¬ r = r' → E s'))) := by
  obtain ⟨hN, hc1, hc2⟩ := Rm1 hI
  obtain ⟨K', G, M, N, hs⟩ := Hs_of hI
  have hh := hs
  obtain ⟨q1, q2, q3, q4, q5, q6, q7, q8, q9, q10, q11, q12, q13, q14, q15, q16⟩ := hh
  have hp15 := pt15 q1 q2
  have hPK := pt_K q1 q2
  have h138 : pR st 138 = (0, 1) := by obtain ⟨a1, a2⟩ := iNt hI; unfold pR; rw [a1, a2]
  refine e_price ?_
  rw [q13, q9, sub1_64 (by omega) (by omega), sub1_64 (by omega) (by omega)]
  unfold w_X0_price_b34
  refine needL (M := fun s Ψ => w_X4_price s p1 p2 p3 Ψ) hI hK' (by decide) (fun hc => ?_) (fun hc s2 f2 Φ h => ?_)
  · obtain ⟨h1, h23⟩ := Bool.and_eq_true_iff.mp hc
    obtain ⟨h2, h3⟩ := Bool.and_eq_true_iff.mp h23
    clear hc h23
    obtain ⟨p, g1, rfl⟩ := inB_nat (m := ptN K' G - 1) (by omega) rfl h1
    obtain ⟨k, g2, rfl⟩ := inB_nat (m := K' - 1) (by omega) rfl h2
    have hp : p < ptN K' G := by omega
    have hk : k < K' := by omega
    obtain ⟨vx, hvx, hve⟩ := vx_ex q1 q2 hk
    have hV0 : Val (ptN K' G) K' (s0S K') := val_0 (by omega) hPK
    obtain ⟨l, r, hl, hR⟩ := Rp_ex (T := ptT K' G M N p (gmF st)) hp15.1 5000 (s0S K') hV0 (rk_0 hp15.1)
    -- the reference
    have hm : ∀ s, 201 ≤ sN s → Hs s K' G M N → gmF s = gmF st → ∀ Φ : St → Int64 → Prop, (∀ t, r = some (some t) → ∀ v, mixF K' G M N vx (gmF st) K' t = some v → ∀ s3, Fr wHm 0 0 s s3 → Φ s3 (if p3 = 0 then v.1 else v.2)) → ((r = none ∨ ∃ t, r = some (some t) ∧ mixF K' G M N vx (gmF st) K' t = none) → ∀ s3, Fr wHm 0 0 s s3 → w_X4_findsFar s3 6 Φ) → (r = some none → ∀ s3, Fr wHm 0 0 s s3 → w_X4_findsFar s3 5 Φ) → w_X4_price s (Int32.ofNat p) (Int32.ofNat k) p3 Φ := fun s hNs hss gs Φ k1 k2 k3 => by
      have big : ∀ s3 x, Fr wHm 0 0 s s3 → sI s3 175 20 = 1 → (r = none ∨ ∃ t, r = some (some t) ∧ mixF K' G M N vx (gmF st) K' t = none) → w_X4_price_b59 Φ s3 p3 x := fun s3 x F3 c3 hb => by
        unfold w_X4_price_b59
        rw [c3]
        exact ⟨fun h => absurd h (by decide), fun _ => k2 hb s3 F3⟩
      have hit : ∀ t, r = some (some t) → Val (ptN K' G) K' t → hwB K' G p t = true → ∀ s', Zp s s' K' G M N (gmF st) → (∀ i, i < K' → sI s' 197 i = Int32.ofNat (gT t i)) → w_X4_corner s' (Int32.ofNat k) (fun (r72 : Int32) => w_X4_weighs s' r72 (fun (s81 : St) (r80 : Int32) => w_X4_mixes s81 (fun (s89 : St) => w_X4_price_b59 Φ s89 p3 1))) := fun t ht hV hw s' Z v' => by
        have hok := ok_all q1 q2 hV hvx (hwB_t.mp hw).1
        refine m_corner Z.1.2.1 hk hvx hve ?_
        refine m_wmix hNs Z hvx hV hok v' (fun v hmx pv s9 Z9 w9 e18 e19 => ?_) (fun hmx s9 X9 c9 => big s9 1 X9.1 c9 (Or.inr ⟨t, ht, hmx⟩))
        have k9 := k1 t ht v hmx s9 Z9.1.1
        unfold w_X4_price_b59
        rw [Z9.2.2.1, e18, e19]
        refine ⟨fun _ => ⟨fun _ => ⟨fun hp2 => ?_, fun hp2 => ?_⟩, fun h => absurd h (by decide)⟩, fun h => absurd rfl h⟩
        · rw [if_neg hp2] at k9; exact k9
        · rw [if_pos hp2] at k9; exact k9
      have no : r = some none → ∀ s', Zp s s' K' G M N (gmF st) → w_X4_price_b59 Φ s' p3 0 := fun hr s' Z => by
        unfold w_X4_price_b59
        rw [Z.2.2.1]
        exact ⟨fun _ => ⟨fun h => absurd rfl h, fun _ => k3 hr s' Z.1.1⟩, fun h => absurd rfl h⟩
      unfold w_X4_price
      rw [pe_X4_isPoint hss.2.2.2.2.1 hss.2.2.2.2.2.1 q1 q2, h1, ib_z]
      refine ⟨fun h => (by cases h), fun _ => ?_⟩
      rw [pe_X4_isState hss.2.2.2.2.1 q1, h2, ib_z]
      refine ⟨fun h => (by cases h), fun _ => ?_⟩
      rw [pe_X4_isPart, h3, ib_nz, ib_z]
      refine ⟨fun _ => m_begins (fun s5 f5 c5 z5 => ?_), fun h => (by cases h)⟩
      have F5 : Fr wHm 0 0 s s5 := Fr_mo f5 (fun a j h => Or.inl (by unfold wU wR; omega)) (Nat.le_refl _) (Nat.le_refl _)
      have X5 : Xm s s5 K' G M N (gmF st) := by
        have := Xm_st hNs ⟨Fr_rf, hss, rfl⟩ F5 (fun _ _ h => h)
        rw [gs] at this; exact this
      unfold w_X4_isPriced
      intro s6 e6
      have F6 : Fr (fun a j => a = 175 ∧ j = 36) 0 0 s5 s6 := by rw [e6]; exact Fr_I Fr_rf (Or.inl ⟨rfl, rfl⟩)
      have X6 := Xm_st hNs X5 F6 (fun a j h => Or.inr (Or.inr (Or.inr (Or.inr h))))
      have hN5 : 201 ≤ sN s5 := Nat.le_trans hNs f5.1
      have Z6 : Zp s s6 K' G M N (gmF st) := by
        refine ⟨X6, by rw [e6, gI_pI, if_pos ⟨rfl, rfl⟩]; exact X5.2.1.2.2.2.2.1, by rw [e6, gI_pI, if_neg (by omega)]; exact c5, fun q hq => Or.inl ?_⟩
        rw [e6, gI_pI, if_neg (by omega)]; exact z5 q (by omega)
      rw [pe_X4_points X6.2.1.2.2.2.2.1 X6.2.1.2.2.2.2.2.1 q1 q2]
      rcases q1 with k2' | k3'
      · refine m_p2 (r := r) (l0 := l) hNs k2' hp15.1 hp (fun t ht hV hw s' Z v' => ?_) (fun hr s' X c => ?_) (fun hr s' Z => ?_) Z6 ?_
        · exact ⟨fun h => absurd h (by decide), fun _ => hit t ht hV hw s' Z v'⟩
        · exact ⟨fun _ => big s' 0 X.1 c (Or.inl hr), fun h => absurd rfl h⟩
        · exact ⟨fun _ => no hr s' Z, fun h => absurd rfl h⟩
        · rw [show nr2 (ptN K' G) 0 1 = some (s0S K') by unfold nr2 s0S; rw [if_pos (by omega), if_neg (by omega), if_pos k2']]
          exact hR
      · refine m_p3 (r := r) (l0 := l) hNs k3' hp15.1 hp (fun t ht hV hw s' Z v' => ?_) (fun hr s' X c => ?_) (fun hr s' Z => ?_) Z6 ?_
        · exact ⟨fun h => absurd h (by decide), fun _ => hit t ht hV hw s' Z v'⟩
        · exact ⟨fun _ => big s' 0 X.1 c (Or.inl hr), fun h => absurd rfl h⟩
        · exact ⟨fun _ => no hr s' Z, fun h => absurd rfl h⟩
        · rw [show nr3 (ptN K' G) 0 1 2 = some (s0S K') by unfold nr3 s0S; rw [if_pos (by omega), if_neg (by omega), if_neg (by omega)]]
          exact hR
    -- the component
    unfold w_X0_priceOf
    refine x_allWorths hN hs (fun s2 F2 v2 => ?_)
    have X2 := x_aw hN hs h138 F2 v2
    have hN2 : 201 ≤ sN s2 := Nat.le_trans hN F2.1
    have F2' : Fr wHX 0 0 st s2 := Fr_mo F2 (fun _ _ h => Or.inl h) (Nat.le_refl _) (Nat.le_refl _)
    have mo : ∀ s', Fr wHx 0 0 s2 s' → Fr wHX 0 0 st s' := fun s' f => Fr_tr (x := 0) (y := 0) F2' (Fr_mo f (fun _ _ h => Or.inr h) (Nat.le_refl _) (Nat.le_refl _))
    have bigx : (r = none ∨ ∃ t, r = some (some t) ∧ mixF K' G M N vx (gmF st) K' t = none) → ∀ s', Fr wHx 0 0 s2 s' → jkA s' (fun s44 => w_X0_isFarBig s44 (fun s46 r45 => w_X4_price s46 (Int32.ofNat p) (Int32.ofNat k) p3 (fun s' r' => (r45 = r' → K s') ∧ (¬ r45 = r' → E s')))) := fun hb s' F' => by
      refine bigL (M := fun s Ψ => w_X4_price s (Int32.ofNat p) (Int32.ofNat k) p3 Ψ) hI hK' wHX_Q (mo s' F') (fun s3 f3 Φ h => ?_)
      obtain ⟨hs3, g3⟩ := Hs_W f3 hN wHX_n hs
      have hN3 : 201 ≤ sN s3 := Nat.le_trans hN f3.1
      refine hm s3 hN3 hs3 g3 Φ (fun t ht v hv => ?_) (fun _ s4 f4 => m_errQL (k := 6) (by decide) (Fr_mo f4 wHm_Q (Nat.le_refl _) (Nat.le_refl _)) hN3 h) (fun hr => ?_)
      · rcases hb with hb | ⟨t', hb, hl⟩
        · rw [hb] at ht; cases ht
        · rw [hb] at ht; cases ht; rw [hl] at hv; cases hv
      · rcases hb with hb | ⟨t', hb, hl⟩
        · rw [hb] at hr; cases hr
        · rw [hb] at hr; cases hr
    rw [X2.2.1.2.2.2.2.2.2.2.2.1]
    refine x_first hN2 (by omega) hPK hp15.1 X2.2.1.2.2.2.2.2.2.2.2.2.2.2.2.1 (fun s10 F10 v10 => ?_)
    have X10 := Xh_st hN2 X2 F10 (fun a j h => Or.inr (Or.inr (Or.inl h)))
    refine x_pl (r := r) hN2 hp (fun t ht hV hw s' X' w' => ?_) (fun hr s' X' => ?_) (fun hr s' F' => bigx (Or.inl hr) s' F') l (s0S K') gFU s10 hV0 hR (gFU_big (by omega)) X10 v10
    · have hok := ok_all q1 q2 hV hvx (hwB_t.mp hw).1
      unfold w_X0_priceOf_b57 w_X0_priceOf_b75
      refine need_1 ?_
      refine x_vertex X'.2.1 hk hvx hve ?_
      rw [X'.2.1.2.2.2.2.2.2.2.2.1]
      refine x_wmix hN2 X' hvx hV hok w' (fun v hmx pv s9 X9 w9 p9 => ?_) (fun hmx s9 F9 => bigx (Or.inr ⟨t, ht, hmx⟩) s9 F9)
      have F9 := mo s9 X9.1
      have hN9 : 201 ≤ sN s9 := Nat.le_trans hN F9.1
      obtain ⟨hs9, g9⟩ := Hs_W (k := 0) (Fr_mo F9 (fun _ _ h => Or.inl h) (Nat.le_refl _) (Nat.le_refl _)) hN wHX_n hs
      have z1 : sL s9 139 0 = v.1 := congrArg Prod.fst p9
      have z2 : sL s9 139 1 = v.2 := congrArg Prod.snd p9
      have fin : ∀ x, x = (if p3 = 0 then v.1 else v.2) → w_X4_price s9 (Int32.ofNat p) (Int32.ofNat k) p3 (fun s'' r' => (x = r' → K s'') ∧ (¬ x = r' → E s'')) := fun x hx => by
        refine hm s9 hN9 hs9 g9 _ (fun t' ht' v' hv' s3 f3 => ?_) (fun hbad => ?_) (fun hr => by rw [ht] at hr; cases hr)
        · rw [ht] at ht'
          cases ht'
          rw [hmx] at hv'
          cases hv'
          exact ⟨fun _ => hK' _ (Inv_q hI (Fr_tr (x := 0) (y := 0) (Fr_mo F9 wHX_Q (Nat.le_refl _) (Nat.le_refl _)) (Fr_mo f3 wHm_Q (Nat.le_refl _) (Nat.le_refl _))) (by omega) (by omega)), fun h => absurd hx h⟩
        · rcases hbad with hbad | ⟨t', hb', hl'⟩
          · rw [ht] at hbad; cases hbad
          · rw [ht] at hb'; cases hb'; rw [hmx] at hl'; cases hl'
      unfold w_X2_part
      dsimp only
      rw [z1, z2]
      exact ⟨fun hp2 => fin _ (by rw [if_neg hp2]), fun hp2 => fin _ (by rw [if_pos hp2])⟩
    · unfold w_X0_priceOf_b75
      refine needWL (c := false) (k := 5) (M := fun s Ψ => w_X4_price s (Int32.ofNat p) (Int32.ofNat k) p3 Ψ) hI hK' (by decide) wHX_Q (mo s' X'.1) (fun h => by cases h) (fun _ s3 f3 Φ h => ?_)
      obtain ⟨hs3, g3⟩ := Hs_W f3 hN wHX_n hs
      have hN3 : 201 ≤ sN s3 := Nat.le_trans hN f3.1
      refine hm s3 hN3 hs3 g3 Φ (fun t ht => by rw [hr] at ht; cases ht) (fun hbad => ?_) (fun _ s4 f4 => m_errQL (k := 5) (by decide) (Fr_mo f4 wHm_Q (Nat.le_refl _) (Nat.le_refl _)) hN3 h)
      rcases hbad with hbad | ⟨t', hb', hl'⟩
      · rw [hr] at hbad; cases hbad
      · rw [hr] at hb'; cases hb'
  · show w_X4_price s2 _ _ _ _
    unfold w_X4_price w_X4_price_b23
    have e0 := (q_at f2 hN (by omega) (nQ_177 (j := 0) (by omega)) (by omega)).1.trans q5
    rw [pe_X4_isPoint e0 ((q_at f2 hN (by omega) (nQ_177 (by omega)) (by omega)).1.trans q6) q1 q2, ib_z]
    refine ⟨fun _ => h, fun g1 => ?_⟩
    have t1 : inB p1.toInt64 0 (Int64.ofInt ((ptN K' G - 1 : Nat) : Int)) = true := by
      cases hq : inB p1.toInt64 0 (Int64.ofInt ((ptN K' G - 1 : Nat) : Int))
      · exact absurd hq g1
      · rfl
    rw [t1, Bool.true_and] at hc
    rw [pe_X4_isState e0 q1, ib_z]
    refine ⟨fun _ => h, fun g2 => ?_⟩
    rw [pe_X4_isPart, ib_nz, ib_z]
    refine ⟨fun g4 => ?_, fun _ => h⟩
    rcases b_or hc with c | c
    · exact absurd c g2
    · rw [c] at g4; cases g4
