/-! PLAIN LAW, 54: the next set of points -/
set_option maxRecDepth 100000
def w136 (a j : Nat) : Prop := a = 136 ∧ j < 3
theorem x_first {st : St} {n P : Nat} {Φ : St → Int32 → Prop} (hN : 201 ≤ sN st) (hn : 1 ≤ n ∧ n ≤ 3) (hP : n ≤ P) (hP2 : P ≤ 15) (h9 : sI st 2 9 = Int32.ofNat P) (h : ∀ s, Fr w136 0 0 st s → (∀ k, k < n → sI s 136 k = Int32.ofNat (gT (s0S n) k)) → Φ s 1) : w_X0_firstSet st (Int32.ofNat n) Φ := by
  unfold w_X0_firstSet
  refine loop_up (α := St × Int32) (L := fun m a => w_X0_firstSet_l2 Φ (fun (s5 : St) (x1 : Int32) => w_X0_firstSet_b20 Φ s5 x1) m a.1 (Int32.ofNat n) a.2) n (fun i a => a.2 = Int32.ofNat i ∧ Fr w136 0 0 st a.1 ∧ ∀ k, k < i → sI a.1 136 k = Int32.ofNat k) (fun m i a hi hA k9 => ?_) (fun m a hA => ?_) gFU 0 (st, 0) (by omega) (gFU_big (by omega)) ⟨rfl, Fr_rf, fun k hk => absurd hk (by omega)⟩
  · obtain ⟨s, x⟩ := a
    obtain ⟨e, F, v⟩ := hA
    dsimp only at e F v
    subst e
    show w_X0_firstSet_l2 Φ _ (m + 1) s _ _
    rw [w_X0_firstSet_l2, le_of (by omega) (by omega), vp_of (by omega), nn_of (by omega)]
    refine ⟨fun h => absurd h (by omega), fun _ => ⟨by omega, ?_⟩⟩
    intro s9 hs9
    refine k9 (s9, _) ?_
    dsimp only
    subst hs9
    refine ⟨succ_of i, Fr_I F (Or.inl ⟨rfl, by omega⟩), fun k hk => ?_⟩
    rw [gI_pI]
    by_cases e : k = i
    · subst e; rw [if_pos ⟨rfl, rfl⟩]
    · rw [if_neg (fun h => e h.2)]; exact v k (by omega)
  · obtain ⟨s, x⟩ := a
    obtain ⟨e, F, v⟩ := hA
    dsimp only at e F v
    subst e
    show w_X0_firstSet_l2 Φ _ (m + 1) s _ _
    rw [w_X0_firstSet_l2]
    refine ⟨fun _ => ?_, fun h => absurd (Int32.le_refl _) h⟩
    unfold w_X0_firstSet_b20
    rw [(fr_at F (Or.inl (by omega)) (by unfold w136; omega)).1, h9, lt_of (by omega) (by omega)]
    refine ⟨fun h => absurd h (by omega), fun _ => h s F (fun k hk => ?_)⟩
    rw [v k hk]
    congr 1
    unfold gT s0S
    rcases (by omega : n = 1 ∨ n = 2 ∨ n = 3) with rfl | rfl | rfl
    · rw [show k = 0 by omega]; rfl
    · rcases (by omega : k = 0 ∨ k = 1) with rfl | rfl <;> rfl
    · rcases (by omega : k = 0 ∨ k = 1 ∨ k = 2) with rfl | rfl | rfl <;> rfl
/-- the last that may still go up -/
theorem x_down {st : St} {n P : Nat} {S : Nat → Nat} {Φ : St → Int32 → Prop} {E : St → Int32 → Int32 → Prop} (hn : n ≤ 3) (hP : n ≤ P) (hP2 : P ≤ 15) (h9 : sI st 2 9 = Int32.ofNat P) (hv : ∀ k, k < n → sI st 136 k = Int32.ofNat (S k) ∧ S k < 15) : ∀ m, m ≤ n → (∀ j, j < m → (∀ k, j < k → k < m → S k = P - n + k) → S j ≠ P - n + j → E st (Int32.ofNat n) (Int32.ofNat j)) → ((∀ k, k < m → S k = P - n + k) → E st (Int32.ofNat n) (-1)) → ∀ f, m < f → w_X0_nextPoints_l4 Φ E f st (Int32.ofNat n) (Int32.ofNat m - 1)
  | 0, _, _, h0, f, hf => by
    obtain ⟨f, rfl⟩ : ∃ g, f = g + 1 := ⟨f - 1, by omega⟩
    rw [show Int32.ofNat 0 - 1 = (-1 : Int32) from rfl, w_X0_nextPoints_l4]
    exact ⟨fun _ => h0 (fun k hk => absurd hk (by omega)), fun h => absurd (by decide) h⟩
  | m + 1, hm, h1, h0, f, hf => by
    obtain ⟨f, rfl⟩ : ∃ g, f = g + 1 := ⟨f - 1, by omega⟩
    obtain ⟨v1, v2⟩ := hv m (by omega)
    have en : (Int32.ofNat m < (0 : Int32)) = (m < 0) := lt_of (n := 0) (by omega) (by omega)
    rw [sub1n (by omega) (by omega), Nat.add_sub_cancel, w_X0_nextPoints_l4, en, vp_of (by omega), nn_of (by omega), v1, h9, sub_of hP (by omega), ← Int32.ofNat_add, ne_eq, ofE (by omega) (by omega)]
    refine ⟨fun h => absurd h (by omega), fun _ => ⟨by omega, fun hne => ?_, fun he => ?_⟩⟩
    · exact h1 m (by omega) (fun k k1 k2 => absurd k2 (by omega)) hne
    · have e9 : Int32.ofNat m + -1 = Int32.ofNat m - 1 := by rw [Int32.sub_eq_add_neg]
      rw [e9]
      refine x_down hn hP hP2 h9 hv m (by omega) (fun j hj g1 g2 => h1 j (by omega) (fun k k1 k2 => ?_) g2) (fun g => h0 (fun k hk => ?_)) f (by omega)
      · by_cases e : k = m
        · rw [e]; exact he
        · exact g1 k k1 (by omega)
      · by_cases e : k = m
        · rw [e]; exact he
        · exact g k (by omega)
/-- the rest follows on -/
theorem x_fill {st0 st : St} {n j v : Nat} {Φ : St → Int32 → Prop} {E : St → Prop} (hn : n ≤ 3) (hj : j < n) (F0 : Fr w136 0 0 st0 st) (hv : sI st 136 j = Int32.ofNat v) (hvb : v < 100) (h : ∀ s, Fr w136 0 0 st0 s → (∀ k, k ≤ j → sI s 136 k = sI st 136 k) → (∀ k, j < k → k < n → sI s 136 k = Int32.ofNat (v + (k - j))) → E s) : w_X0_nextPoints_l54 Φ E gFU st (Int32.ofNat n) (Int32.ofNat j + 1) := by
  rw [succ_of]
  refine loop_up (α := St × Int32) (L := fun m a => w_X0_nextPoints_l54 Φ E m a.1 (Int32.ofNat n) a.2) n (fun i a => a.2 = Int32.ofNat i ∧ j < i ∧ Fr w136 0 0 st0 a.1 ∧ (∀ k, k ≤ j → sI a.1 136 k = sI st 136 k) ∧ ∀ k, j < k → k < i → sI a.1 136 k = Int32.ofNat (v + (k - j))) (fun m i a hi hA k9 => ?_) (fun m a hA => ?_) gFU (j + 1) (st, Int32.ofNat (j + 1)) (by omega) (gFU_big (by omega)) ⟨rfl, by omega, F0, fun _ _ => rfl, fun k k1 k2 => absurd k2 (by omega)⟩
  · obtain ⟨s, x⟩ := a
    obtain ⟨e, hji, F, v1, v2⟩ := hA
    dsimp only at e F v1 v2
    subst e
    show w_X0_nextPoints_l54 Φ E (m + 1) s _ _
    have ev : sI s 136 (i - 1) = Int32.ofNat (v + (i - 1 - j)) := by
      by_cases e : i - 1 = j
      · rw [e, v1 j (by omega), hv]; congr 1; omega
      · exact v2 (i - 1) (by omega) (by omega)
    rw [w_X0_nextPoints_l54, le_of (by omega) (by omega), sub1n (by omega) (by omega), vp_of (by omega), vp_of (by omega), nn_of (by omega), nn_of (by omega), ev, succ_of]
    refine ⟨fun h => absurd h (by omega), fun _ => ⟨by omega, by omega, ?_⟩⟩
    intro s9 hs9
    refine k9 (s9, _) ?_
    dsimp only
    subst hs9
    refine ⟨succ_of i, by omega, Fr_I F (Or.inl ⟨rfl, by omega⟩), fun k hk => ?_, fun k k1 k2 => ?_⟩
    · rw [gI_pI, if_neg (by omega)]; exact v1 k hk
    · rw [gI_pI]
      by_cases e : k = i
      · subst e; rw [if_pos ⟨rfl, rfl⟩]; congr 1; omega
      · rw [if_neg (fun h => e h.2)]; exact v2 k k1 (by omega)
  · obtain ⟨s, x⟩ := a
    obtain ⟨e, hji, F, v1, v2⟩ := hA
    dsimp only at e F v1 v2
    subst e
    show w_X0_nextPoints_l54 Φ E (m + 1) s _ _
    rw [w_X0_nextPoints_l54]
    exact ⟨fun _ => h s F v1 v2, fun h => absurd (Int32.le_refl _) h⟩
/-- the component steps to the next set -/
theorem x_next {st : St} {n P : Nat} {s : Nat × Nat × Nat} {Φ : St → Int32 → Prop} (hN : 201 ≤ sN st) (hP2 : P ≤ 15) (hV : Val P n s) (h9 : sI st 2 9 = Int32.ofNat P) (hv : ∀ k, k < n → sI st 136 k = Int32.ofNat (gT s k)) (h0 : nxS P n s = none → Φ st 0) (h1 : ∀ t, nxS P n s = some t → ∀ s', Fr w136 0 0 st s' → (∀ k, k < n → sI s' 136 k = Int32.ofNat (gT t k)) → Φ s' 1) : w_X0_nextPoints st (Int32.ofNat n) Φ := by
  obtain ⟨n1, n3, g1, -⟩ := gT_lt hV
  have hP : n ≤ P := by
    unfold Val at hV; omega
  unfold w_X0_nextPoints
  rintro _ rfl
  refine x_down (S := gT s) n3 hP hP2 h9 (fun k hk => ⟨hv k hk, by have := g1 k hk; omega⟩) n (Nat.le_refl _) (fun j hj ha hb => ?_) (fun ha => ?_) gFU (gFU_big (by omega))
  · have gj := g1 j hj
    -- the set that follows
    have hx : ∃ t, nxS P n s = some t ∧ (∀ k, k < j → gT t k = gT s k) ∧ ∀ k, j ≤ k → k < n → gT t k = gT s j + 1 + (k - j) := by
      obtain ⟨a, b, c⟩ := s
      unfold Val at hV
      unfold nxS
      dsimp only at hV ⊢
      rcases hV with ⟨rfl, hV⟩ | ⟨rfl, hV⟩ | ⟨rfl, hV⟩
      · have ej : j = 0 := by omega
        subst ej
        have hb' : a ≠ P - 1 + 0 := hb
        refine ⟨(a + 1, 0, 0), by rw [if_pos rfl]; unfold nr1; rw [if_pos (by omega)], fun k hk => absurd hk (by omega), fun k k1 k2 => ?_⟩
        rw [show k = 0 by omega]; rfl
      · rcases (by omega : j = 0 ∨ j = 1) with rfl | rfl
        · have ha' : b = P - 2 + 1 := ha 1 (by omega) (by omega)
          have hb' : a ≠ P - 2 + 0 := hb
          refine ⟨(a + 1, a + 2, 0), by rw [if_neg (by omega), if_pos rfl]; unfold nr2; rw [if_neg (by omega), if_pos (by omega)], fun k hk => absurd hk (by omega), fun k k1 k2 => ?_⟩
          rcases (by omega : k = 0 ∨ k = 1) with rfl | rfl <;> rfl
        · have hb' : b ≠ P - 2 + 1 := hb
          refine ⟨(a, b + 1, 0), by rw [if_neg (by omega), if_pos rfl]; unfold nr2; rw [if_pos (by omega)], fun k hk => ?_, fun k k1 k2 => ?_⟩
          · rw [show k = 0 by omega]; rfl
          · rw [show k = 1 by omega]; rfl
      · rcases (by omega : j = 0 ∨ j = 1 ∨ j = 2) with rfl | rfl | rfl
        · have ha1 : b = P - 3 + 1 := ha 1 (by omega) (by omega)
          have ha2 : c = P - 3 + 2 := ha 2 (by omega) (by omega)
          have hb' : a ≠ P - 3 + 0 := hb
          refine ⟨(a + 1, a + 2, a + 3), by rw [if_neg (by omega), if_neg (by omega)]; unfold nr3; rw [if_neg (by omega), if_neg (by omega), if_pos (by omega)], fun k hk => absurd hk (by omega), fun k k1 k2 => ?_⟩
          rcases (by omega : k = 0 ∨ k = 1 ∨ k = 2) with rfl | rfl | rfl <;> rfl
        · have ha2 : c = P - 3 + 2 := ha 2 (by omega) (by omega)
          have hb' : b ≠ P - 3 + 1 := hb
          refine ⟨(a, b + 1, b + 2), by rw [if_neg (by omega), if_neg (by omega)]; unfold nr3; rw [if_neg (by omega), if_pos (by omega)], fun k hk => ?_, fun k k1 k2 => ?_⟩
          · rw [show k = 0 by omega]; rfl
          · rcases (by omega : k = 1 ∨ k = 2) with rfl | rfl <;> rfl
        · have hb' : c ≠ P - 3 + 2 := hb
          refine ⟨(a, b, c + 1), by rw [if_neg (by omega), if_neg (by omega)]; unfold nr3; rw [if_pos (by omega)], fun k hk => ?_, fun k k1 k2 => ?_⟩
          · rcases (by omega : k = 0 ∨ k = 1) with rfl | rfl <;> rfl
          · rw [show k = 2 by omega]; rfl
    obtain ⟨t, e, t1, t2⟩ := hx
    unfold w_X0_nextPoints_b34
    have z0 : ((0 : Int32) ≤ Int32.ofNat j) = (0 ≤ j) := le_of (m := 0) (by omega) (by omega)
    rw [z0, vp_of (by omega), nn_of (by omega), hv j hj, succ_of (gT s j)]
    refine ⟨fun _ => ⟨by omega, ?_⟩, fun h => absurd (Nat.zero_le _) h⟩
    intro s9 e9 v11 e11
    have F9 : Fr w136 0 0 st s9 := by rw [e9]; exact Fr_I Fr_rf (Or.inl ⟨rfl, by omega⟩)
    have v9 : sI s9 136 j = Int32.ofNat (gT s j + 1) := by rw [e9, gI_pI, if_pos ⟨rfl, rfl⟩]
    have o9 : ∀ k, k ≠ j → sI s9 136 k = sI st 136 k := fun k hk => by rw [e9, gI_pI, if_neg (fun h => hk h.2)]
    rw [e11]
    refine x_fill n3 hj F9 v9 (by omega) (fun s' F' w1 w2 => ?_)
    unfold w_X0_nextPoints_b81
    refine h1 t e s' F' (fun k hk => ?_)
    rcases Nat.lt_trichotomy k j with h | h | h
    · rw [w1 k (by omega), o9 k (by omega), hv k hk, t1 k h]
    · rw [h, w1 j (Nat.le_refl _), v9, t2 j (Nat.le_refl _) hj, Nat.sub_self, Nat.add_zero]
    · rw [w2 k h hk, t2 k (by omega) hk]
  · unfold w_X0_nextPoints_b34
    refine ⟨fun h => absurd h (by decide), fun _ => h0 ?_⟩
    obtain ⟨a, b, c⟩ := s
    unfold Val at hV
    unfold nxS
    dsimp only at hV ⊢
    rcases hV with ⟨rfl, hV⟩ | ⟨rfl, hV⟩ | ⟨rfl, hV⟩
    · have h : a = P - 1 + 0 := ha 0 (by omega)
      rw [if_pos rfl]; unfold nr1; rw [if_neg (by omega)]
    · have h : a = P - 2 + 0 := ha 0 (by omega)
      have h' : b = P - 2 + 1 := ha 1 (by omega)
      rw [if_neg (by omega), if_pos rfl]; unfold nr2; rw [if_neg (by omega), if_neg (by omega)]
    · have h : a = P - 3 + 0 := ha 0 (by omega)
      have h' : b = P - 3 + 1 := ha 1 (by omega)
      have h'' : c = P - 3 + 2 := ha 2 (by omega)
      rw [if_neg (by omega), if_neg (by omega)]; unfold nr3; rw [if_neg (by omega), if_neg (by omega), if_neg (by omega)]
