/-! PLAIN LAW, 5: the invariant holds when both objects are made -/
set_option maxRecDepth 100000
theorem Inv_0 : Inv 24 (stOf gcM) := by
  have hlen : gcM.length = 201 := by decide +kernel
  refine ⟨⟨by decide +kernel, by decide +kernel, by decide +kernel⟩, fun k hk => ?_, fun k hk => ?_, ⟨2, 4, 2, 2, ⟨Or.inl rfl, by decide, by decide, by decide, by decide +kernel, by decide +kernel, by decide +kernel, by decide +kernel, ⟨0, by decide +kernel, by decide +kernel⟩, fun j h1 h2 => ?_, fun j h1 h2 => ?_⟩, ⟨fun j hj => ?_, by decide +kernel, fun g r c hg hr hc => ?_, fun k hk => ?_⟩, ⟨by decide +kernel, fun p k hp hk => ?_⟩, Or.inl ⟨by decide +kernel, by decide +kernel⟩⟩, ⟨by decide +kernel, 0, by decide, by decide +kernel, Or.inl rfl⟩, by unfold Zz; decide +kernel, ⟨by decide +kernel, Or.inl (by decide +kernel)⟩, ⟨0, by decide, by decide +kernel, by decide +kernel, fun i hi => absurd hi (by omega)⟩, ⟨gBIG, 0, by decide, by decide +kernel, ⟨gBIG + 1, by decide +kernel, by decide +kernel, fun i hi => absurd hi (by omega), Or.inl ⟨by decide +kernel, by decide +kernel, by decide +kernel⟩, Or.inr (Nat.le_refl _), Or.inr (Nat.le_succ _), Or.inr ⟨Nat.le_refl _, Nat.le_succ _⟩⟩, by decide +kernel, fun i hi => absurd hi (by omega)⟩, ⟨fun k hk => Or.inl ?_, fun k l v hk hl hne hs => ?_⟩, ⟨by decide +kernel, by decide +kernel⟩⟩
  · have h1 : ¬ k < gcM.length := by rw [hlen]; unfold gBIG at hk; omega
    have e1 : sh (stOf gcM) k = bsS k := if_neg h1
    have e2 : ln (stOf gcM) k = bsL k := if_neg h1
    have e3 : ∀ j, sI (stOf gcM) k j = bsI k j := fun j => if_neg h1
    have e4 : ∀ j, sR (stOf gcM) k j = bsR k j := fun j => if_neg h1
    refine ⟨by rw [e1]; exact if_pos hk, by rw [e2]; exact if_pos hk, fun j => ⟨by rw [e3]; exact if_pos hk, by rw [e4]; exact if_pos hk⟩⟩
  · have h : ∀ k, k < 9 → sI (stOf gcM) 1 k = sI (stOf gcM) 176 k := by decide +kernel
    exact h k hk
  · have h : ∀ j, j < 31 → 4 ≤ j → (-20) ≤ sI (stOf gcM) 177 j ∧ sI (stOf gcM) 177 j ≤ 20 := by decide +kernel
    exact h j h2 h1
  · have h : ∀ j, j < 35 → 32 ≤ j → (-99) ≤ sI (stOf gcM) 177 j ∧ sI (stOf gcM) 177 j ≤ 99 := by decide +kernel
    exact h j h2 h1
  · have h : ∀ j, j < 4 → sI (stOf gcM) 2 j = sI (stOf gcM) 177 j := by decide +kernel
    exact h j hj
  · have h : ∀ g, g < 3 → ∀ r, r < 3 → ∀ c, c < 3 → sI (stOf gcM) (2 + (3 + 4 * g + r)) c = sI (stOf gcM) 177 (4 + 9 * g + 3 * r + c) := by decide +kernel
    exact h g hg r hr c hc
  · have h : ∀ k, k < 3 → sI (stOf gcM) (2 + 14) k = sI (stOf gcM) 177 (32 + k) := by decide +kernel
    exact h k hk
  · have h : ∀ p, p < 5 → ∀ k, k < 3 → sI (stOf gcM) (2 + (16 + p)) k = Int32.ofNat (ptV 2 4 p k) := by decide +kernel
    have e : ptN 2 4 = 5 := by decide +kernel
    exact h p (by rw [e] at hp; exact hp) k hk
  · have h : ∀ k, k < 5 → sR (stOf gcM) (170 + k) 0 = none ∧ sI (stOf gcM) 186 k = 0 ∧ sI (stOf gcM) 187 k = 0 := by decide +kernel
    exact h k hk
  · have h : ∀ k, k < 5 → sR (stOf gcM) (170 + k) 0 = none := by decide +kernel
    rw [h k hk] at hs; cases hs
