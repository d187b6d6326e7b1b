/-! PLAIN LAW, 9: feed -/
set_option maxRecDepth 100000
theorem o_feed {b : Nat} {st : St} {p1 : Int32} {K E : St → Prop} (hI : Inv (b + 1) st) (hK : ∀ s, Inv b s → K s) : w_X0_feed st p1 (fun s r => w_X4_feed s p1 (fun s' r' => (r = r' → K s') ∧ (¬ r = r' → E s'))) := by
  obtain ⟨hN, hc1, hc2⟩ := Rm1 hI
  obtain ⟨n, t1, t2, t3, t4⟩ := hI.2.2.2.2.2.2.2.1
  unfold w_X0_feed
  rw [pe_X0_in]
  refine s_must (fun hc => ?_) (fun hc => ⟨by omega, by omega, fun st1 f1 e1 => x_err (k := 1) (by decide) f1 (Nat.le_refl _) e1 hN (fun s2 f2 e2 => ?_)⟩)
  · obtain ⟨v, k1, rfl⟩ := inB_nat (m := 255) (by omega) rfl hc
    have e200 : (200 : Int32) = Int32.ofNat 200 := rfl
    rw [t2, e200, le_of (by omega) (by omega)]
    by_cases hn : n = 200
    · refine ⟨fun _ => ?_, fun h => absurd (by omega) h⟩
      show w_X0_feed_b27 _ st (Int32.ofNat v) (ib false)
      unfold w_X0_feed_b27
      refine s_need (fun h => (by cases h)) (fun _ => ⟨by omega, by omega, fun st1 f1 e1 => x_err (k := 4) (by decide) f1 (Nat.le_refl _) e1 hN (fun s2 f2 e2 => ?_)⟩)
      show w_X4_feed s2 _ _
      unfold w_X4_feed
      rw [pe_X4_isIn, ib_nz, ib_z, hc]
      refine ⟨fun _ => ⟨fun h => absurd ?_ h, fun _ => ?_⟩, fun h => (by cases h)⟩
      · rw [fr_I _ _ f2 hN 175 10 (by omega) (fun h => by unfold wE at h; omega), t3, hn]; rfl
      · exact m_err (k := 4) (by decide) (fun s3 f3 e3 => ⟨fun _ => hK _ (err_fin (by decide) hI f2 f3 e2 e3 (by omega) (by omega) wE_1 wE_2), fun h => absurd rfl h⟩)
    · refine ⟨fun h => absurd h (by omega), fun _ => ?_⟩
      show w_X0_feed_b27 _ st (Int32.ofNat v) (ib true)
      unfold w_X0_feed_b27
      refine s_need (fun _ => ?_) (fun h => (by cases h))
      rw [t2, vp_of (by omega), nn_of (by omega)]
      refine ⟨by omega, ?_⟩
      rintro _ rfl _ rfl
      show w_X4_feed _ _ _
      unfold w_X4_feed
      have em : sI (putI (putI st 146 n (Int32.ofNat v)) 0 33 (sI (putI st 146 n (Int32.ofNat v)) 0 33 + 1)) 175 10 = Int32.ofNat n := by
        rw [gI_pI, if_neg (by omega), gI_pI, if_neg (by omega)]; exact t3
      rw [pe_X4_isIn, ib_nz, ib_z, hc, em, vp_of (by omega), nn_of (by omega)]
      refine ⟨fun _ => ⟨fun _ => ⟨by omega, ?_⟩, fun h => absurd ?_ (show ¬ n = 200 from hn)⟩, fun h => (by cases h)⟩
      · rintro _ rfl _ rfl
        refine ⟨fun _ => hK _ ?_, fun h => absurd ?_ h⟩
        · have hF : Fr (fun a j => (a = 146 ∧ j = n) ∨ (a = 0 ∧ j = 33) ∨ (a = 182 ∧ j = n) ∨ (a = 175 ∧ j = 10)) 0 0 st _ := Fr_I (a := 175) (j := 10) (v := sI (putI (putI (putI st 146 n (Int32.ofNat v)) 0 33 (sI (putI st 146 n (Int32.ofNat v)) 0 33 + 1)) 182 n (Int32.ofNat v)) 175 10 + 1) (Fr_I (a := 182) (j := n) (v := Int32.ofNat v) (Fr_I (a := 0) (j := 33) (v := sI (putI st 146 n (Int32.ofNat v)) 0 33 + 1) (Fr_I (a := 146) (j := n) (v := Int32.ofNat v) Fr_rf (Or.inl (Or.inl ⟨rfl, rfl⟩))) (Or.inl (Or.inr (Or.inl ⟨rfl, rfl⟩)))) (Or.inl (Or.inr (Or.inr (Or.inl ⟨rfl, rfl⟩))))) (Or.inl (Or.inr (Or.inr (Or.inr ⟨rfl, rfl⟩))))
          obtain ⟨r1, r2, r3, r4, r5, r6, r7, r8, r9, r10, r11⟩ := Inv_fr hI hF (by omega) (by omega) (fun a j h hw => by first | omega | (dsimp only at hw; omega))
          refine ⟨r1, r2, r3 (fun a j h hw => by unfold REr at h; first | omega | (dsimp only at hw; omega)), r4 (fun a j h hw => by unfold RHr at h; first | omega | (dsimp only at hw; omega)), r5 (fun a j h hw => by unfold RIm at h; first | omega | (dsimp only at hw; omega)), r6 (fun a j h hw => by unfold RZz at h; first | omega | (dsimp only at hw; omega)), r7 (fun a j h hw => by unfold RPy at h; first | omega | (dsimp only at hw; omega)), ⟨n + 1, by omega, ?_, ?_, fun i hi => ?_⟩, r9 (fun a j h hw => by unfold RLi at h; first | omega | (dsimp only at hw; omega)), r10 (fun a j h hw => by unfold RSx at h; first | omega | (dsimp only at hw; omega)), r11 (fun a j h hw => by unfold RNt at h; first | omega | (dsimp only at hw; omega))⟩
          · rw [gI_pI, if_neg (by omega), gI_pI, if_neg (by omega), gI_pI, if_pos ⟨rfl, rfl⟩, gI_pI, if_neg (by omega), t2, succ_of]
          · rw [gI_pI, if_pos ⟨rfl, rfl⟩, gI_pI, if_neg (by omega), gI_pI, if_neg (by omega), gI_pI, if_neg (by omega), t3, succ_of]
          · by_cases e : i = n
            · subst e
              refine ⟨?_, v, by omega, ?_⟩
              · simp only [gI_pI]; simp
              · simp only [gI_pI]; simp
            · obtain ⟨g1, bb, g2, g3⟩ := t4 i (by omega)
              refine ⟨?_, bb, g2, ?_⟩
              · simp only [gI_pI]; simp [e, g1]
              · simp only [gI_pI]; simp [e, g3]
        · simp only [gI_pI]; simp [t2, t3]
      · have := congrArg Int32.toNatClampNeg h
        rwa [nn_of (by omega), show (200 : Int32) = Int32.ofNat 200 from rfl, nn_of (by omega)] at this
  · show w_X4_feed s2 p1 _
    unfold w_X4_feed
    rw [pe_X4_isIn, ib_nz, ib_z, hc]
    refine ⟨fun h => (by cases h), fun _ => ?_⟩
    exact m_err (k := 1) (by decide) (fun s3 f3 e3 => ⟨fun _ => hK _ (err_fin (by decide) hI f2 f3 e2 e3 (by omega) (by omega) wE_1 wE_2), fun h => absurd rfl h⟩)
