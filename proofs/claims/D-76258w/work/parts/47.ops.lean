/-! PLAIN LAW, 8: begin, letter -/
set_option maxRecDepth 100000
theorem i01 : Int32.toNatClampNeg (0 + 1) = 1 := by decide
theorem i011 : Int32.toNatClampNeg (0 + 1 + 1) = 2 := by decide
theorem i0 : Int32.toNatClampNeg 0 = 0 := by decide
theorem o_begin {b : Nat} {st : St} {K E : St → Prop} (hI : Inv (b + 1) st) (hK : ∀ s, Inv b s → K s) : w_X0_begin st (fun s r => w_X4_begin s (fun s' r' => (r = r' → K s') ∧ (¬ r = r' → E s'))) := by
  obtain ⟨hN, hc1, hc2⟩ := Rm1 hI
  unfold w_X0_begin
  rintro _ rfl _ rfl _ rfl _ rfl
  unfold gFU
  rw [w_X0_begin_l22]
  refine ⟨fun h => absurd h (by decide), fun _ => ⟨by unfold vp_in; decide, ?_⟩⟩
  rintro _ rfl
  rw [w_X0_begin_l22]
  refine ⟨fun h => absurd h (by decide), fun _ => ⟨by unfold vp_in; decide, ?_⟩⟩
  rintro _ rfl
  rw [w_X0_begin_l22]
  refine ⟨fun h => absurd h (by decide), fun _ => ⟨by unfold vp_in; decide, ?_⟩⟩
  rintro _ rfl
  rw [w_X0_begin_l22, i0, i01, i011]
  refine ⟨fun _ => ?_, fun h => absurd (by decide) h⟩
  unfold w_X0_begin_b40
  generalize hx : putI (putI (putI (putI (putR (putI (putI st 0 43 1) 0 44 0) 0 47 none) 0 46 (-1)) 147 0 0) 147 1 0) 147 2 0 = sx
  have fx : Fr (fun a j => (a = 0 ∧ (j = 43 ∨ j = 44 ∨ j = 46 ∨ j = 47)) ∨ a = 147) 0 0 st sx := by
    rw [← hx]
    exact Fr_I (Fr_I (Fr_I (Fr_I (Fr_R (Fr_I (Fr_I Fr_rf (Or.inl (by omega))) (Or.inl (by omega))) (Or.inl (by omega))) (Or.inl (by omega))) (Or.inl (by omega))) (Or.inl (by omega))) (Or.inl (by omega))
  have x1 : sI sx 0 43 = 1 ∧ sI sx 0 44 = 0 ∧ sI sx 0 46 = -1 ∧ sR sx 0 47 = none ∧ sI sx 147 0 = 0 ∧ sI sx 147 1 = 0 ∧ sI sx 147 2 = 0 := by
    rw [← hx]
    simp [gI_pI, gI_pR, gR_pI, gR_pR]
  clear hx
  show w_X4_begin sx _
  unfold w_X4_begin
  rintro _ rfl _ rfl
  unfold gFU
  rw [w_X4_begin_l12]
  refine ⟨fun h => absurd h (by decide), fun _ => ⟨by unfold vp_in; decide, ?_⟩⟩
  rintro _ rfl
  rw [w_X4_begin_l12]
  refine ⟨fun h => absurd h (by decide), fun _ => ⟨by unfold vp_in; decide, ?_⟩⟩
  rintro _ rfl
  rw [w_X4_begin_l12]
  refine ⟨fun h => absurd h (by decide), fun _ => ⟨by unfold vp_in; decide, ?_⟩⟩
  rintro _ rfl
  rw [w_X4_begin_l12, i0, i01, i011]
  refine ⟨fun _ => ?_, fun h => absurd (by decide) h⟩
  unfold w_X4_begin_b30
  generalize hy : putI (putI (putI (putI (putI sx 175 5 1) 175 6 0) 180 0 0) 180 1 0) 180 2 0 = sy
  have fy : Fr (fun a j => (a = 175 ∧ (j = 5 ∨ j = 6)) ∨ a = 180) 0 0 sx sy := by
    rw [← hy]
    exact Fr_I (Fr_I (Fr_I (Fr_I (Fr_I Fr_rf (Or.inl (by omega))) (Or.inl (by omega))) (Or.inl (by omega))) (Or.inl (by omega))) (Or.inl (by omega))
  have y1 : sI sy 175 5 = 1 ∧ sI sy 175 6 = 0 ∧ sI sy 180 0 = 0 ∧ sI sy 180 1 = 0 ∧ sI sy 180 2 = 0 := by
    rw [← hy]
    simp [gI_pI]
  clear hy
  refine ⟨fun _ => hK _ ?_, fun h => absurd rfl h⟩
  have hNx : 201 ≤ sN sx := Nat.le_trans hN fx.1
  have hF : Fr (fun a j => ((a = 0 ∧ (j = 43 ∨ j = 44 ∨ j = 46 ∨ j = 47)) ∨ a = 147) ∨ ((a = 175 ∧ (j = 5 ∨ j = 6)) ∨ a = 180)) 0 0 st sy := Fr_tr (Fr_mo fx (fun _ _ h => Or.inl h) (Nat.le_refl _) (Nat.le_refl _)) (Fr_mo fy (fun _ _ h => Or.inr h) (Nat.le_refl _) (Nat.le_refl _))
  obtain ⟨u1, u2, u3, u4, u5, u6, u7⟩ := x1
  obtain ⟨w1, w2, w3, w4, w5⟩ := y1
  have k0 : ∀ j, Same sx sy 0 j := fun j => fr_at fy (Or.inl (by omega)) (by omega)
  have k1 : ∀ j, sI sy 147 j = sI sx 147 j := fun j => (fr_at fy (Or.inl (by omega)) (by omega)).1
  obtain ⟨r1, r2, r3, r4, r5, r6, r7, r8, r9, r10, r11⟩ := Inv_fr hI hF (by omega) (by omega) (fun a j h hw => by first | omega | (dsimp only at hw; omega))
  refine ⟨r1, r2, r3 (fun a j h hw => by unfold REr at h; first | omega | (dsimp only at hw; omega)), r4 (fun a j h hw => by unfold RHr at h; first | omega | (dsimp only at hw; omega)), r5 (fun a j h hw => by unfold RIm at h; first | omega | (dsimp only at hw; omega)), r6 (fun a j h hw => by unfold RZz at h; first | omega | (dsimp only at hw; omega)), ⟨?_, Or.inr ⟨?_, 0, by omega, ?_, ?_, fun k hk => ?_, fun k hk => ⟨0, ?_, by omega, by omega⟩, ?_, ?_⟩⟩, r8 (fun a j h hw => by unfold RTp at h; first | omega | (dsimp only at hw; omega)), r9 (fun a j h hw => by unfold RLi at h; first | omega | (dsimp only at hw; omega)), r10 (fun a j h hw => by unfold RSx at h; first | omega | (dsimp only at hw; omega)), r11 (fun a j h hw => by unfold RNt at h; first | omega | (dsimp only at hw; omega))⟩
  · rw [(k0 43).1, u1, w1]
  · rw [(k0 43).1, u1]
  · rw [(k0 44).1, u2]; rfl
  · rw [w2]; rfl
  · rw [k1]
    rcases (by omega : k = 0 ∨ k = 1 ∨ k = 2) with rfl | rfl | rfl
    · rw [u5, w3]
    · rw [u6, w4]
    · rw [u7, w5]
  · rw [k1]
    rcases (by omega : k = 0 ∨ k = 1 ∨ k = 2) with rfl | rfl | rfl
    · rw [u5]; rfl
    · rw [u6]; rfl
    · rw [u7]; rfl
  · rw [(k0 46).1, u3]; rfl
  · rw [(k0 47).2.2, u4]; rfl
