/-! PLAIN LAW, 20: played, back -/
set_option maxRecDepth 100000
def exV (v : Int32) : Int32 := if 0 < v then v else 0
def smI (f : Nat → Int32) : Nat → Int32
  | 0 => 0
  | k + 1 => smI f k + f k
theorem smI_cg {f g : Nat → Int32} : ∀ k, (∀ i, i < k → f i = g i) → smI f k = smI g k
  | 0, _ => rfl
  | k + 1, h => by rw [smI, smI, smI_cg k (fun i hi => h i (by omega)), h k (by omega)]
theorem pe_excess {st : St} {k K : Nat} {Φ : Int32 → Prop} (hk : k < 3) (hK : K < 2 ^ 31) (h0 : sI st 2 0 = Int32.ofNat K) : w_X0_excess st (Int32.ofNat k) Φ = Φ (if K ≤ k then 0 else exV (sI st 147 k - sI st 0 44 * sI st (2 + 14) k)) := by
  unfold w_X0_excess w_J8_max exV
  rw [h0, le_of hK (by omega), vp_of (by omega), nn_of (by omega)]
  by_cases h : K ≤ k
  · simp [h]
  · by_cases h2 : 0 < sI st 147 k - sI st 0 44 * sI st (2 + 14) k <;> simp [h, h2, hk]
theorem s_allExcess {st : St} {K : Nat} {Φ : Int32 → Prop} (hK : K = 2 ∨ K = 3) (h0 : sI st 2 0 = Int32.ofNat K) (h : Φ (smI (fun k => exV (sI st 147 k - sI st 0 44 * sI st (2 + 14) k)) K)) : w_X0_allExcess st Φ := by
  unfold w_X0_allExcess
  rw [show (0 : Int32) = Int32.ofNat 0 from rfl, show (1 : Int32) = Int32.ofNat 1 from rfl, show (2 : Int32) = Int32.ofNat 2 from rfl, pe_excess (by omega) (by omega) h0, pe_excess (by omega) (by omega) h0, pe_excess (by omega) (by omega) h0]
  rcases hK with rfl | rfl
  · simp only [smI, Int32.zero_add] at h
    simp only [show ¬ (2 ≤ 0) by omega, show ¬ (2 ≤ 1) by omega, Nat.le_refl, if_true, if_false]
    have e : ∀ x : Int32, x + Int32.ofNat 0 = x := fun x => Int32.add_zero x
    first | exact h | (simp only [e]; exact h) | (rw [Int32.add_zero]; exact h)
  · simp only [smI, Int32.zero_add] at h
    simp only [show ¬ (3 ≤ 0) by omega, show ¬ (3 ≤ 1) by omega, show ¬ (3 ≤ 2) by omega, if_false]
    exact h
theorem pe_above {st : St} {k : Nat} {Φ : Int32 → Prop} (hk : k < 3) : w_X4_above st (Int32.ofNat k) Φ = Φ (exV (sI st 180 k - sI st 175 6 * sI st 177 (32 + k))) := by
  unfold w_X4_above exV
  have e32 : 32 + Int32.ofNat k = Int32.ofNat (32 + k) := by rw [Int32.ofNat_add]; rfl
  rw [e32, vp_of (by omega), vp_of (by omega), nn_of (by omega), nn_of (by omega)]
  apply propext
  constructor
  · rintro ⟨-, -, h⟩
    have h := h _ rfl
    by_cases h2 : 0 < sI st 180 k - sI st 175 6 * sI st 177 (32 + k)
    · rw [if_pos h2]; exact h.1 (Int32.le_of_lt h2)
    · rw [if_neg h2]
      by_cases h3 : 0 ≤ sI st 180 k - sI st 175 6 * sI st 177 (32 + k)
      · have h4 := h.1 h3
        have e : sI st 180 k - sI st 175 6 * sI st 177 (32 + k) = 0 := Int32.le_antisymm (Int32.not_lt.mp h2) h3
        rw [e] at h4; exact h4
      · exact h.2 h3
  · intro h
    refine ⟨hk, by omega, ?_⟩
    rintro _ rfl
    by_cases h2 : 0 < sI st 180 k - sI st 175 6 * sI st 177 (32 + k)
    · rw [if_pos h2] at h; exact ⟨fun _ => h, fun h3 => absurd (Int32.le_of_lt h2) h3⟩
    · rw [if_neg h2] at h
      refine ⟨fun h3 => ?_, fun _ => h⟩
      have e : sI st 180 k - sI st 175 6 * sI st 177 (32 + k) = 0 := Int32.le_antisymm (Int32.not_lt.mp h2) h3
      rw [e]; exact h
theorem s_aboveAll {st : St} {K : Nat} {Φ : Int32 → Prop} (hK : K = 2 ∨ K = 3) (h0 : sI st 177 0 = Int32.ofNat K) (h : Φ (smI (fun k => exV (sI st 180 k - sI st 175 6 * sI st 177 (32 + k))) K)) : w_X4_aboveAll st Φ := by
  unfold w_X4_aboveAll
  refine loop_up (α := Int32 × Int32) (L := fun n a => w_X4_aboveAll_l4 Φ (fun (_ : St) (x1 : Int32) => w_X4_aboveAll_b28 Φ st x1) n st a.1 a.2) K (fun i a => a = (smI (fun k => exV (sI st 180 k - sI st 175 6 * sI st 177 (32 + k))) i, Int32.ofNat i)) (fun n i a hi hI k => ?_) (fun n a hI => ?_) gFU 0 (0, 0) (by omega) (gFU_big (by omega)) rfl
  · subst hI
    show w_X4_aboveAll_l4 Φ _ (n + 1) st _ _
    rw [w_X4_aboveAll_l4]
    dsimp only
    rw [h0, le_of (by omega) (by omega), pe_above (by omega)]
    refine ⟨fun h => absurd h (by omega), fun _ => ?_⟩
    rintro _ rfl
    refine k (_, _) ?_
    rw [succ_of]; rfl
  · subst hI
    show w_X4_aboveAll_l4 Φ _ (n + 1) st _ _
    rw [w_X4_aboveAll_l4]
    dsimp only
    rw [h0]
    exact ⟨fun _ => h, fun h => absurd (Int32.le_refl _) h⟩
theorem o_played {b : Nat} {st : St} {p1 : Int32} {K E : St → Prop} (hI : Inv (b + 1) st) (hK : ∀ s, Inv b s → K s) : w_X0_played st p1 (fun s r => w_X4_played s p1 (fun s' r' => (r = r' → K s') ∧ (¬ r = r' → E s'))) := by
  obtain ⟨hN, hc1, hc2⟩ := Rm1 hI
  obtain ⟨K', G, M, N, q1, q2, q3, q4, q5, q6, q7, q8, q9, q10, q11, q12, q13, q14, q15, q16, q17, q18⟩ := hs_of hI
  obtain ⟨y1, y2⟩ := iPy hI
  unfold w_X0_played
  rw [pe_X0_in]
  refine needI (M := fun s Ψ => w_X4_played s p1 Ψ) hI hK (by decide) (fun hc => ?_) (fun hc s2 f2 Φ h => ?_)
  · have fin : ∀ {r r' : Int32}, r = r' → ((r = r' → K st) ∧ (¬ r = r' → E st)) := fun h => ⟨fun _ => hK _ (Inv_id hI), fun h2 => absurd h h2⟩
    -- not played
    have hno : ((sI st 175 5 = 0) ∨ (p1 = 5 ∧ sI st 175 6 = 0)) → w_X0_played_b35 (fun s r => w_X4_played s p1 (fun s' r' => (r = r' → K s') ∧ (¬ r = r' → E s'))) st p1 := fun hz => by
      unfold w_X0_played_b35 w_X0_played_b36
      refine needI (c := false) (k := 2) (M := fun s Ψ => w_X4_played s p1 Ψ) hI hK (by decide) (fun h => by cases h) (fun _ s2 f2 Φ h => ?_)
      have e5 : sI s2 175 5 = sI st 175 5 := (q_at f2 hN (by omega) (nQ_Py (by unfold RPy; omega)) (by omega)).1
      have e6 : sI s2 175 6 = sI st 175 6 := (q_at f2 hN (by omega) (nQ_Py (by unfold RPy; omega)) (by omega)).1
      show w_X4_played s2 _ _
      unfold w_X4_played w_X4_played_b37
      rw [pe_X4_isIn, hc, ib_nz, ib_z, e5, e6]
      refine ⟨fun _ => ⟨fun _ => h, fun n5 => ⟨fun n6 => ?_, fun e5 => ⟨fun n6 => ?_, fun _ => h⟩⟩⟩, fun h => (by cases h)⟩
      · rcases hz with hz | hz
        · exact absurd hz n5
        · exact absurd hz.1 n6
      · rcases hz with hz | hz
        · exact absurd hz n5
        · exact absurd hz.2 n6
    obtain ⟨k, k1, rfl⟩ := inB_nat (m := 5) (by omega) rfl hc
    refine ⟨fun h43 => hno (Or.inl (by rw [← y1]; exact h43)), fun h43 => ?_⟩
    rcases y2 with y2 | ⟨y2, n, y3, y4, y5, y6, y7, y8, y9⟩
    · exact absurd y2 h43
    have h5 : sI st 175 5 ≠ 0 := by rw [← y1]; exact h43
    -- played
    have hyes : (k = 5 → 1 ≤ n) → w_X0_played_b31 (fun s r => w_X4_played s (Int32.ofNat k) (fun s' r' => (r = r' → K s') ∧ (¬ r = r' → E s'))) st (Int32.ofNat k) := fun hn => by
      have hm : ∀ Φ : St → Int32 → Prop, w_X4_played_b43 Φ st (Int32.ofNat k) → w_X4_played st (Int32.ofNat k) Φ := fun Φ hΦ => by
        unfold w_X4_played
        rw [pe_X4_isIn, hc, ib_nz, ib_z]
        refine ⟨fun _ => ⟨fun h => absurd h h5, fun _ => ⟨fun _ => hΦ, fun e5 => ⟨fun _ => hΦ, fun e6 => ?_⟩⟩⟩, fun h => (by cases h)⟩
        have := of_inj (by omega) (by omega) (e5.trans (show (5 : Int32) = Int32.ofNat 5 from rfl))
        have := hn this
        rw [y5, zN (by omega)] at e6
        omega
      unfold w_X0_played_b31 w_X0_played_b36
      refine need_1 ?_
      have hsum : ∀ i, i < 3 → (Int32.ofNat k = Int32.ofNat (i + 1)) → vp_in (Int32.ofNat k - 1) 3 ∧ w_X4_played st (Int32.ofNat k) (fun s' r' => (sI st 147 (Int32.ofNat k - 1).toNatClampNeg = r' → K s') ∧ (¬ sI st 147 (Int32.ofNat k - 1).toNatClampNeg = r' → E s')) := fun i hi hk => by
        have hk2 := of_inj (by omega) (by omega) hk
        subst hk2
        have e1 : Int32.ofNat (i + 1) - 1 = Int32.ofNat i := sub1n (by omega) (by omega)
        rw [e1, vp_of (by omega), nn_of (by omega)]
        refine ⟨hi, hm _ ⟨fun _ => ⟨fun h4 => ?_, fun _ => ?_⟩, fun h0 => ?_⟩⟩
        · rw [show (4 : Int32) = Int32.ofNat 4 from rfl, le_of (by omega) (by omega)] at h4; omega
        · rw [e1, vp_of (by omega), nn_of (by omega)]
          exact ⟨hi, fin (y6 i hi)⟩
        · rw [zN (by omega)] at h0; omega
      refine ⟨fun h => ?_, fun h => hsum 0 (by omega) h, fun h => hsum 1 (by omega) h, fun h => hsum 2 (by omega) h, fun h => ?_, fun h => ?_⟩
      · have hk2 := of_inj (by omega) (by omega) (h.trans (show (0 : Int32) = Int32.ofNat 0 from rfl))
        subst hk2
        exact hm _ ⟨fun h0 => absurd rfl h0, fun _ => fin (y4.trans y5.symm)⟩
      · have hk2 := of_inj (by omega) (by omega) (h.trans (show (4 : Int32) = Int32.ofNat 4 from rfl))
        subst hk2
        refine s_allExcess q1 q9 (hm _ ⟨fun _ => ⟨fun _ => ⟨fun h4 => absurd rfl h4, fun _ => ?_⟩, fun h4 => absurd (Int32.le_refl _) h4⟩, fun h0 => absurd h0 (by decide)⟩)
        refine s_aboveAll q1 q5 (fin (smI_cg K' (fun i hi => ?_)))
        rw [y6 i (by omega), y4, y5, q17 i (by omega)]
      · rw [ti_of (by omega)] at h
        have hk2 : k = 5 := by omega
        subst hk2
        have hn1 := hn rfl
        have e1 : 5 * (Int32.ofNat n - 1) + 4 = Int32.ofNat (5 * (n - 1) + 4) := by
          rw [sub1n hn1 (by omega), Int32.ofNat_add, Int32.ofNat_mul]; rfl
        refine hm _ ⟨fun _ => ⟨fun _ => ⟨fun _ => ?_, fun h4 => absurd h4 (by decide)⟩, fun h4 => absurd h4 (by decide)⟩, fun h0 => absurd h0 (by decide)⟩
        rw [y5, e1, vp_of (by omega), nn_of (by omega)]
        rw [if_neg (by omega)] at y8
        exact ⟨by omega, fin y8⟩
    refine ⟨fun h => hyes (fun e => ?_), fun h => ⟨fun h44 => ?_, fun h44 => hyes (fun _ => ?_)⟩⟩
    · subst e; exact absurd h (by decide)
    · have hk : k = 5 := by
        rw [show (5 : Int32) = Int32.ofNat 5 from rfl, lt_of (by omega) (by omega)] at h; omega
      subst hk
      refine hno (Or.inr ⟨rfl, ?_⟩)
      rw [y4, show (0 : Int32) = Int32.ofNat 0 from rfl, le_of (by omega) (by omega)] at h44
      rw [y5, zN (by omega)]; omega
    · rw [y4, show (0 : Int32) = Int32.ofNat 0 from rfl, le_of (by omega) (by omega)] at h44
      omega
  · show w_X4_played s2 _ _
    unfold w_X4_played
    rw [pe_X4_isIn, hc, ib_nz, ib_z]
    exact ⟨fun h => (by cases h), fun _ => h⟩
/-! back -/
theorem s_back_l {Φ : St → Int32 → Prop} {E : St → Prop} {m : Nat} (hm : m < 60) {s0 : St} (h : ∀ s, Fr (fun a j => a = 180 ∧ j < 3) 0 0 s0 s → (∀ j, j < 3 → sI s 180 j = sI s0 181 (5 * m + 1 + j)) → E s) : w_X4_back_l52 Φ E gFU s0 (Int32.ofNat (5 * m)) 0 := by
  refine loop_up (α := St × Int32) (L := fun n a => w_X4_back_l52 Φ E n a.1 (Int32.ofNat (5 * m)) a.2) 3 (fun i a => a.2 = Int32.ofNat i ∧ Fr (fun a j => a = 180 ∧ j < 3) 0 0 s0 a.1 ∧ (∀ j, sI a.1 181 j = sI s0 181 j) ∧ ∀ j, j < i → sI a.1 180 j = sI s0 181 (5 * m + 1 + j)) (fun n i a hi hI k9 => ?_) (fun n a hI => ?_) gFU 0 (s0, 0) (by omega) (gFU_big (by omega)) ⟨rfl, Fr_rf, fun _ => rfl, fun j hj => absurd hj (by omega)⟩
  · obtain ⟨s, x⟩ := a
    obtain ⟨e, h1, h2, h3⟩ := hI
    dsimp only at e h1 h2 h3
    subst e
    show w_X4_back_l52 Φ E (n + 1) s _ _
    rw [w_X4_back_l52]
    have e : Int32.ofNat (5 * m) + 1 + Int32.ofNat i = Int32.ofNat (5 * m + 1 + i) := by simp only [Int32.ofNat_add]; rfl
    have e2 : ((3 : Int32) ≤ Int32.ofNat i) = (3 ≤ i) := le_of (m := 3) (by omega) (by omega)
    rw [e, e2, vp_of (by omega), vp_of (by omega), nn_of (by omega), nn_of (by omega)]
    refine ⟨fun h => absurd h (by omega), fun _ => ⟨by omega, hi, ?_⟩⟩
    intro s9 hs9
    refine k9 (s9, _) ?_
    dsimp only
    subst hs9
    refine ⟨succ_of i, Fr_I h1 (Or.inl ⟨rfl, hi⟩), fun j => by rw [gI_pI, if_neg (by omega)]; exact h2 j, fun j hj => ?_⟩
    rw [gI_pI]
    by_cases e9 : j = i
    · rw [if_pos ⟨rfl, e9⟩, h2, e9]
    · rw [if_neg (fun h => e9 h.2)]; exact h3 j (by omega)
  · obtain ⟨s, x⟩ := a
    obtain ⟨e, h1, h2, h3⟩ := hI
    dsimp only at e h1 h2 h3
    subst e
    show w_X4_back_l52 Φ E (n + 1) s _ _
    rw [w_X4_back_l52]
    exact ⟨fun _ => h s h1 h3, fun h => absurd (Int32.le_refl _) h⟩
def wBx (a j : Nat) : Prop := (a = 147 ∧ j < 3) ∨ (a = 0 ∧ (j = 6 ∨ j = 44 ∨ j = 46 ∨ j = 47))
def wBk (a j : Nat) : Prop := wBx a j ∨ (a = 175 ∧ j = 6) ∨ (a = 177 ∧ j = 96) ∨ (a = 180 ∧ j < 3)
theorem o_back {b : Nat} {st : St} {K E : St → Prop} (hI : Inv (b + 1) st) (hK : ∀ s, Inv b s → K s) : w_X0_back st (fun s r => w_X4_back s (fun s' r' => (r = r' → K s') ∧ (¬ r = r' → E s'))) := by
  obtain ⟨hN, hc1, hc2⟩ := Rm1 hI
  obtain ⟨y1, y2⟩ := iPy hI
  unfold w_X0_back
  have hno : ((sI st 175 5 = 0) ∨ (sI st 175 6 = 0)) → w_X0_back_b18 (fun s r => w_X4_back s (fun s' r' => (r = r' → K s') ∧ (¬ r = r' → E s'))) st := fun hz => by
    unfold w_X0_back_b18 w_X0_back_b19
    refine needI (c := false) (k := 2) (M := fun s Ψ => w_X4_back s Ψ) hI hK (by decide) (fun h => by cases h) (fun _ s2 f2 Φ h => ?_)
    have e5 : sI s2 175 5 = sI st 175 5 := (q_at f2 hN (by omega) (nQ_Py (by unfold RPy; omega)) (by omega)).1
    have e6 : sI s2 175 6 = sI st 175 6 := (q_at f2 hN (by omega) (nQ_Py (by unfold RPy; omega)) (by omega)).1
    show w_X4_back s2 _
    unfold w_X4_back w_X4_back_b14
    rw [e5, e6]
    refine ⟨fun _ => h, fun n5 => ⟨fun n6 => ?_, fun _ => h⟩⟩
    rcases hz with hz | hz
    · exact absurd hz n5
    · exact absurd hz n6
  refine ⟨fun h43 => hno (Or.inl (by rw [← y1]; exact h43)), fun h43 => ?_⟩
  rcases y2 with y2 | ⟨y2, n, y3, y4, y5, y6, y7, y8, y9⟩
  · exact absurd y2 h43
  cases n with
  | zero =>
    have e : sR st 0 47 = none := y9
    exact ⟨fun _ => hno (Or.inr y5), fun h => absurd e h⟩
  | succ n =>
    obtain ⟨a, w1, w2, w3, w4, w5, w6, w7, w8, w9⟩ := y9
    have hne : sR st 0 47 ≠ none := by rw [w1]; intro h; cases h
    refine ⟨fun h => absurd h hne, fun _ => ?_⟩
    unfold w_X0_back_b19
    refine need_1 ?_
    refine ⟨a, w1, w4, w5, ?_⟩
    rintro _ rfl
    refine ⟨a, by rw [gR_pI]; exact w1, w4, by rw [gs_pI]; exact w5, ?_⟩
    rintro _ rfl
    refine ⟨a, by rw [gR_pI, gR_pI]; exact w1, w4, by rw [gs_pI, gs_pI]; exact w5, ?_⟩
    rintro _ rfl
    refine ⟨a, by rw [gR_pI, gR_pI, gR_pI]; exact w1, w4, by rw [gs_pI, gs_pI, gs_pI]; exact w5, ?_⟩
    rintro _ rfl
    refine ⟨a, by rw [gR_pI, gR_pI, gR_pI, gR_pI]; exact w1, w4, by rw [gs_pI, gs_pI, gs_pI, gs_pI]; exact w5, ?_⟩
    rintro _ rfl
    refine ⟨a, by rw [gR_pI, gR_pI, gR_pI, gR_pI, gR_pI]; exact w1, w4, by rw [gs_pI, gs_pI, gs_pI, gs_pI, gs_pI]; exact w5, ?_⟩
    have g1 : ∀ j, sI (putI st 147 0 (sI st a 0)) a j = sI st a j := fun j => by rw [gI_pI, if_neg (by omega)]
    rw [g1]
    have g2 : ∀ j, sI (putI (putI st 147 0 (sI st a 0)) 147 1 (sI st a 1)) a j = sI st a j := fun j => by rw [gI_pI, if_neg (by omega)]; exact g1 j
    rw [g2]
    have g3 : ∀ j, sI (putI (putI (putI st 147 0 (sI st a 0)) 147 1 (sI st a 1)) 147 2 (sI st a 2)) a j = sI st a j := fun j => by rw [gI_pI, if_neg (by omega)]; exact g2 j
    rw [g3]
    have g4 : ∀ j, sI (putI (putI (putI (putI st 147 0 (sI st a 0)) 147 1 (sI st a 1)) 147 2 (sI st a 2)) 0 6 (sI st a 3)) a j = sI st a j := fun j => by rw [gI_pI, if_neg (by omega)]; exact g3 j
    rw [g4]
    simp only [gR_pI]
    rintro _ rfl _ rfl
    have ev : sI (putR (putI (putI (putI (putI (putI st 147 0 (sI st a 0)) 147 1 (sI st a 1)) 147 2 (sI st a 2)) 0 6 (sI st a 3)) 0 46 (sI st a 4)) 0 47 (sR st a 5)) 0 44 = Int32.ofNat (n + 1) := by
      rw [gI_pR, gI_pI, if_neg (by omega), gI_pI, if_neg (by omega), gI_pI, if_neg (by omega), gI_pI, if_neg (by omega), gI_pI, if_neg (by omega)]; exact y4
    rw [ev, gI_pI, if_pos ⟨rfl, rfl⟩, sub1n (by omega) (by omega), Nat.add_sub_cancel]
    generalize hx : putI (putR (putI (putI (putI (putI (putI st 147 0 (sI st a 0)) 147 1 (sI st a 1)) 147 2 (sI st a 2)) 0 6 (sI st a 3)) 0 46 (sI st a 4)) 0 47 (sR st a 5)) 0 44 (Int32.ofNat n) = sx
    have fx : Fr wBx 0 0 st sx := by
      rw [← hx]
      exact Fr_I (Fr_R (Fr_I (Fr_I (Fr_I (Fr_I (Fr_I Fr_rf (Or.inl (Or.inl ⟨rfl, by omega⟩))) (Or.inl (Or.inl ⟨rfl, by omega⟩))) (Or.inl (Or.inl ⟨rfl, by omega⟩))) (Or.inl (Or.inr ⟨rfl, by omega⟩))) (Or.inl (Or.inr ⟨rfl, by omega⟩))) (Or.inl (Or.inr ⟨rfl, by omega⟩))) (Or.inl (Or.inr ⟨rfl, by omega⟩))
    have x44 : sI sx 0 44 = Int32.ofNat n := by rw [← hx, gI_pI, if_pos ⟨rfl, rfl⟩]
    have x46 : sI sx 0 46 = sI st a 4 := by rw [← hx, gI_pI, if_neg (by omega), gI_pR, gI_pI, if_pos ⟨rfl, rfl⟩]
    have x6 : sI sx 0 6 = sI st a 3 := by rw [← hx, gI_pI, if_neg (by omega), gI_pR, gI_pI, if_neg (by omega), gI_pI, if_pos ⟨rfl, rfl⟩]
    have x47 : sR sx 0 47 = sR st a 5 := by rw [← hx, gR_pI, gR_pR, if_pos ⟨rfl, rfl⟩]
    have x147 : ∀ k, k < 3 → sI sx 147 k = sI st a k := fun k hk => by
      rw [← hx, gI_pI, if_neg (by omega), gI_pR, gI_pI, if_neg (by omega), gI_pI, if_neg (by omega)]
      rcases (by omega : k = 0 ∨ k = 1 ∨ k = 2) with rfl | rfl | rfl
      · rw [gI_pI, if_neg (by omega), gI_pI, if_neg (by omega), gI_pI, if_pos ⟨rfl, rfl⟩]
      · rw [gI_pI, if_neg (by omega), gI_pI, if_pos ⟨rfl, rfl⟩]
      · rw [gI_pI, if_pos ⟨rfl, rfl⟩]
    clear hx ev g1 g2 g3 g4
    show w_X4_back sx _
    have s : ∀ c j, c < 201 → ¬ wBx c j → Same st sx c j := fun c j hc hw => fr_at fx (Or.inl (by omega)) hw
    have h5 : sI st 175 5 ≠ 0 := by rw [← y1]; exact h43
    unfold w_X4_back
    rw [(s 175 5 (by omega) (by unfold wBx; omega)).1, (s 175 6 (by omega) (by unfold wBx; omega)).1, show sI st 175 6 = Int32.ofNat (n + 1) from y5]
    refine ⟨fun h => absurd h h5, fun _ => ⟨fun _ => ?_, fun h => absurd h (nz_of (by omega) (by omega))⟩⟩
    rw [sub1n (by omega) (by omega), Nat.add_sub_cancel]
    rintro _ rfl _ rfl
    have e5 : (5 : Int32) * Int32.ofNat n = Int32.ofNat (5 * n) := by rw [Int32.ofNat_mul]; rfl
    have e6 : sI (putI sx 175 6 (Int32.ofNat n)) 175 6 = Int32.ofNat n := by rw [gI_pI, if_pos ⟨rfl, rfl⟩]
    rw [e6, e5, vp_of (by omega), nn_of (by omega)]
    refine ⟨by omega, ?_⟩
    rintro _ rfl
    have e7 : sI (putI sx 175 6 (Int32.ofNat n)) 181 (5 * n) = sI st 181 (5 * n) := by rw [gI_pI, if_neg (by omega)]; exact (s 181 _ (by omega) (by unfold wBx; omega)).1
    rw [e7]
    generalize hm : putI (putI sx 175 6 (Int32.ofNat n)) 177 96 (sI st 181 (5 * n)) = sm
    have fm : Fr wBk 0 0 sx sm := by
      rw [← hm]
      exact Fr_I (Fr_I Fr_rf (Or.inl (Or.inr (Or.inl ⟨rfl, rfl⟩)))) (Or.inl (Or.inr (Or.inr (Or.inl ⟨rfl, rfl⟩))))
    have m6 : sI sm 175 6 = Int32.ofNat n := by rw [← hm, gI_pI, if_neg (by omega)]; exact e6
    have m96 : sI sm 177 96 = sI st 181 (5 * n) := by rw [← hm, gI_pI, if_pos ⟨rfl, rfl⟩]
    have ms : ∀ c j, c ≠ 175 → c ≠ 177 → Same sx sm c j := fun c j h1 h2 => by
      rw [← hm]
      exact ⟨by rw [gI_pI, if_neg (by omega), gI_pI, if_neg (by omega)], by rw [gL_pI, gL_pI], by rw [gR_pI, gR_pI]⟩
    clear hm
    refine s_back_l (by omega) (fun s3 f3 v3 => ?_)
    unfold w_X4_back_b79
    have hsm : 201 ≤ sN sm := Nat.le_trans (Nat.le_trans hN fx.1) fm.1
    have t : ∀ c j, c < 201 → c ≠ 180 → Same sm s3 c j := fun c j hc h1 => fr_at f3 (Or.inl (by omega)) (fun h => h1 h.1)
    have z6 : sI s3 175 6 = Int32.ofNat n := (t 175 6 (by omega) (by omega)).1.trans m6
    rw [z6]
    refine ⟨fun _ => hK _ ?_, fun h => absurd rfl h⟩
    have fa : Fr wBk 0 0 st s3 := Fr_tr (x := 0) (y := 0) (Fr_mo fx (fun _ _ h => Or.inl h) (Nat.le_refl _) (Nat.le_refl _)) (Fr_tr (x := 0) (y := 0) fm (Fr_mo f3 (fun _ _ h => Or.inr (Or.inr (Or.inr h))) (Nat.le_refl _) (Nat.le_refl _)))
    have nW : ∀ c j, wBk c j → (c = 147 ∧ j < 3) ∨ (c = 0 ∧ (j = 6 ∨ j = 44 ∨ j = 46 ∨ j = 47)) ∨ (c = 175 ∧ j = 6) ∨ (c = 177 ∧ j = 96) ∨ (c = 180 ∧ j < 3) := fun c j h => by
      unfold wBk wBx at h; omega
    have u : ∀ c j, c ≠ 175 → c ≠ 177 → c ≠ 180 → c < 201 → Same sx s3 c j := fun c j h1 h2 h3 h4 => by
      obtain ⟨k1, k2, k3⟩ := ms c j h1 h2
      obtain ⟨l1, l2, l3⟩ := t c j h4 h3
      exact ⟨l1.trans k1, l2.trans k2, l3.trans k3⟩
    have v : ∀ c j, c < 201 → ¬ ((c = 147 ∧ j < 3) ∨ (c = 0 ∧ (j = 6 ∨ j = 44 ∨ j = 46 ∨ j = 47)) ∨ (c = 175 ∧ j = 6) ∨ (c = 177 ∧ j = 96) ∨ (c = 180 ∧ j < 3)) → Same st s3 c j := fun c j h1 h2 => fr_at fa (Or.inl (by omega)) (fun h => h2 (nW c j h))
    have v81 : ∀ j, sI s3 181 j = sI st 181 j := fun j => (v 181 j (by omega) (by omega)).1
    obtain ⟨r1, r2, r3, r4, r5, r6, r7, r8, r9, r10, r11⟩ := Inv_fr hI fa (by omega) (by omega) (fun a j h hw => by have := nW a j hw; omega)
    refine ⟨r1, r2, r3 (fun a j h hw => by have := nW a j hw; unfold REr at h; omega), r4 (fun a j h hw => by have := nW a j hw; unfold RHr at h; omega), r5 (fun a j h hw => by have := nW a j hw; unfold RIm at h; omega), ?_, ⟨?_, Or.inr ⟨?_, n, by omega, ?_, z6, fun k hk => ?_, fun k hk => ?_, ?_, ?_⟩⟩, r8 (fun a j h hw => by have := nW a j hw; unfold RTp at h; omega), r9 (fun a j h hw => by have := nW a j hw; unfold RLi at h; omega), r10 (fun a j h hw => by have := nW a j hw; unfold RSx at h; omega), r11 (fun a j h hw => by have := nW a j hw; unfold RNt at h; omega)⟩
    · show sI s3 0 6 = sI s3 177 96
      rw [(u 0 6 (by omega) (by omega) (by omega) (by omega)).1, x6, w7, (t 177 96 (by omega) (by omega)).1, m96]
    · rw [(v 0 43 (by omega) (by omega)).1, (v 175 5 (by omega) (by omega)).1]; exact y1
    · rw [(v 0 43 (by omega) (by omega)).1]; exact y2
    · rw [(u 0 44 (by omega) (by omega) (by omega) (by omega)).1]; exact x44
    · rw [(u 147 k (by omega) (by omega) (by omega) (by omega)).1, x147 k hk, v3 k hk, (ms 181 _ (by omega) (by omega)).1, (s 181 _ (by omega) (by unfold wBx; omega)).1]
      exact (w6 k hk).1
    · rw [(u 147 k (by omega) (by omega) (by omega) (by omega)).1, x147 k hk, (w6 k hk).1]
      exact (w6 k hk).2
    · rw [(u 0 46 (by omega) (by omega) (by omega) (by omega)).1, x46, w8]
      by_cases e : n = 0
      · rw [if_pos e, if_pos e]
      · rw [if_neg e, if_neg e, v81]
    · rw [(u 0 47 (by omega) (by omega) (by omega) (by omega)).2.2, x47]
      exact Ws_fr fa hN (fun a j h hw => by have := nW a j hw; omega) n _ w9
