/-! PLAIN LAW, 29: whether a square solves the table: the reference -/
set_option maxRecDepth 100000
theorem smL_z {f : Nat → Int64} {a : Nat} : ∀ d, (∀ i, a ≤ i → i < a + d → f i = 0) → smL f (a + d) = smL f a
  | 0, _ => rfl
  | d + 1, h => by
    rw [← Nat.add_assoc, smL, smL_z d (fun i h1 h2 => h i h1 (by omega)), h (a + d) (by omega) (by omega), Int64.add_zero]
theorem sm_supp {f : Nat → Int64} {K : Nat → Nat} : ∀ (n h : Nat), (∀ i, i + 1 < n → K i < K (i + 1)) → (∀ i, i < n → K i < h) → (∀ r, r < h → (∀ i, i < n → K i ≠ r) → f r = 0) → smL f h = smL (fun i => f (K i)) n
  | 0, h, _, _, hz => by
    have := smL_z (f := f) (a := 0) h (fun i _ h2 => hz i (by omega) (fun j hj => absurd hj (by omega)))
    rw [Nat.zero_add] at this
    exact this
  | n + 1, h, ha, hl, hz => by
    have hn := hl n (by omega)
    have hup : ∀ i j, j ≤ n → i ≤ j → K i ≤ K j := fun i j hj hij => by
      induction j with
      | zero => rw [show i = 0 by omega]; exact Nat.le_refl _
      | succ j ih =>
        by_cases e : i = j + 1
        · rw [e]; exact Nat.le_refl _
        · have h1 := ih (by omega) (by omega)
          have h2 := ha j (by omega)
          omega
    have e1 : h = (K n + 1) + (h - (K n + 1)) := by omega
    rw [e1, smL_z (h - (K n + 1)) (fun i h1 h2 => hz i (by omega) (fun j hj e => by have := hup j n (Nat.le_refl _) (by omega); omega)), smL, smL]
    congr 1
    refine sm_supp n (K n) (fun i hi => ha i (by omega)) (fun i hi => ?_) (fun r hr hne => hz r (by omega) (fun i hi => ?_))
    · have h1 := hup (i + 1) n (Nat.le_refl _) (by omega)
      have h2 := ha i (by omega)
      omega
    · by_cases e : i = n
      · rw [e]; omega
      · exact hne i (by omega)
theorem idC (T : Nat → Nat → Int64) (I J : Nat → Nat) {n k : Nat} (hn : 1 ≤ n ∧ n ≤ 3) (hk : k < n) : mD T n I J false k = if (n + k) % 2 = 0 then -xM T n I J n k else xM T n I J n k := by
  rcases (by omega : (n = 1 ∧ k = 0) ∨ (n = 2 ∧ k = 0) ∨ (n = 2 ∧ k = 1) ∨ (n = 3 ∧ k = 0) ∨ (n = 3 ∧ k = 1) ∨ (n = 3 ∧ k = 2)) with ⟨rfl, rfl⟩ | ⟨rfl, rfl⟩ | ⟨rfl, rfl⟩ | ⟨rfl, rfl⟩ | ⟨rfl, rfl⟩ | ⟨rfl, rfl⟩
  · exact id_1_c0 T I J
  · exact id_2_c0 T I J
  · exact id_2_c1 T I J
  · exact id_3_c0 T I J
  · exact id_3_c1 T I J
  · exact id_3_c2 T I J
theorem idR (T : Nat → Nat → Int64) (I J : Nat → Nat) {n k : Nat} (hn : 1 ≤ n ∧ n ≤ 3) (hk : k < n) : mD T n I J true k = if (n + k) % 2 = 0 then -xM T n I J k n else xM T n I J k n := by
  rcases (by omega : (n = 1 ∧ k = 0) ∨ (n = 2 ∧ k = 0) ∨ (n = 2 ∧ k = 1) ∨ (n = 3 ∧ k = 0) ∨ (n = 3 ∧ k = 1) ∨ (n = 3 ∧ k = 2)) with ⟨rfl, rfl⟩ | ⟨rfl, rfl⟩ | ⟨rfl, rfl⟩ | ⟨rfl, rfl⟩ | ⟨rfl, rfl⟩ | ⟨rfl, rfl⟩
  · exact id_1_r0 T I J
  · exact id_2_r0 T I J
  · exact id_2_r1 T I J
  · exact id_3_r0 T I J
  · exact id_3_r1 T I J
  · exact id_3_r2 T I J
theorem idW (T : Nat → Nat → Int64) (I J : Nat → Nat) {n : Nat} (hn : 1 ≤ n ∧ n ≤ 3) : mD T n I J false 9 = -xM T n I J (n + 1) (n + 1) := by
  rcases (by omega : n = 1 ∨ n = 2 ∨ n = 3) with rfl | rfl | rfl
  · exact id_1_w T I J
  · exact id_2_w T I J
  · exact id_3_w T I J
theorem idV (T : Nat → Nat → Int64) (I J : Nat → Nat) {n : Nat} (hn : 1 ≤ n ∧ n ≤ 3) : mD T n I J false n = xM T n I J n n := by
  rcases (by omega : n = 1 ∨ n = 2 ∨ n = 3) with rfl | rfl | rfl
  · exact id_1_v T I J
  · exact id_2_v T I J
  · exact id_3_v T I J
/-- a table, its size, in the reference -/
def Tm (st : St) (T : Nat → Nat → Int64) (h w : Nat) : Prop := sI st 175 22 = Int32.ofNat h ∧ sI st 175 23 = Int32.ofNat w ∧ ∀ r c, r < h → c < w → sL st 188 (3 * r + c) = T r c
theorem Tm_fr {st st' : St} {T : Nat → Nat → Int64} {h w : Nat} {W : Nat → Nat → Prop} {x y : Nat} (hF : Fr W x y st st') (hN : 201 ≤ sN st) (hW : ∀ a j, (a = 175 ∧ (j = 22 ∨ j = 23)) ∨ a = 188 → ¬ W a j) (hT : Tm st T h w) : Tm st' T h w := by
  obtain ⟨h1, h2, h3⟩ := hT
  exact ⟨by rw [(fr_at hF (Or.inl (by omega)) (hW 175 22 (by omega))).1]; exact h1, by rw [(fr_at hF (Or.inl (by omega)) (hW 175 23 (by omega))).1]; exact h2, fun r c hr hc => by rw [(fr_at hF (Or.inl (by omega)) (hW 188 _ (by omega))).2.1]; exact h3 r c hr hc⟩
def wKm (a j : Nat) : Prop := (a = 193 ∧ j < 16) ∨ (a = 191 ∧ j < 27) ∨ (a = 192 ∧ j < 3) ∨ (a = 175 ∧ (j = 29 ∨ j = 30))
theorem wKm_193 : ∀ a j, w193a a j → wKm a j := fun a j h => Or.inl h
theorem s_l65 {Φ : St → Int32 → Prop} {E : St → Int64 → Prop} {st0 : St} {x1 : Int64} (h : ∀ s, Fr (fun a j => a = 191 ∧ j < 27) 0 0 st0 s → (∀ j, j < 27 → sL s 191 j = 0) → E s x1) : w_X4_isKernel_l65 Φ E gFU st0 x1 0 := by
  refine loop_up (α := St × Int32) (L := fun n a => w_X4_isKernel_l65 Φ E n a.1 x1 a.2) 27 (fun i a => a.2 = Int32.ofNat i ∧ Fr (fun a j => a = 191 ∧ j < 27) 0 0 st0 a.1 ∧ ∀ j, j < i → sL a.1 191 j = 0) (fun n i a hi hI k9 => ?_) (fun n a hI => ?_) gFU 0 (st0, 0) (by omega) (gFU_big (by omega)) ⟨rfl, Fr_rf, fun j hj => absurd hj (by omega)⟩
  · obtain ⟨s, x⟩ := a
    obtain ⟨e, h1, h2⟩ := hI
    dsimp only at e h1 h2
    subst e
    show w_X4_isKernel_l65 Φ E (n + 1) s _ _
    have e2 : ((27 : Int32) ≤ Int32.ofNat i) = (27 ≤ i) := le_of (m := 27) (by omega) (by omega)
    rw [w_X4_isKernel_l65, e2, vp_of (by omega), nn_of (by omega)]
    refine ⟨fun h => absurd h (by omega), fun _ => ⟨hi, ?_⟩⟩
    intro s9 hs9
    refine k9 (s9, _) ?_
    dsimp only
    subst hs9
    refine ⟨succ_of i, Fr_L h1 (Or.inl ⟨rfl, hi⟩), fun j hj => ?_⟩
    rw [gL_pL]
    by_cases e9 : j = i
    · rw [if_pos ⟨rfl, e9⟩]
    · rw [if_neg (fun h => e9 h.2)]; exact h2 j (by omega)
  · obtain ⟨s, x⟩ := a
    obtain ⟨e, h1, h2⟩ := hI
    dsimp only at e h1 h2
    subst e
    show w_X4_isKernel_l65 Φ E (n + 1) s _ _
    rw [w_X4_isKernel_l65]
    exact ⟨fun _ => h s h1 h2, fun h => absurd (Int32.le_refl _) h⟩
theorem s_l86 {Φ : St → Int32 → Prop} {E : St → Int64 → Prop} {st0 : St} {x1 : Int64} (h : ∀ s, Fr (fun a j => a = 192 ∧ j < 3) 0 0 st0 s → (∀ j, j < 3 → sL s 192 j = 0) → E s x1) : w_X4_isKernel_l86 Φ E gFU st0 x1 0 := by
  refine loop_up (α := St × Int32) (L := fun n a => w_X4_isKernel_l86 Φ E n a.1 x1 a.2) 3 (fun i a => a.2 = Int32.ofNat i ∧ Fr (fun a j => a = 192 ∧ j < 3) 0 0 st0 a.1 ∧ ∀ j, j < i → sL a.1 192 j = 0) (fun n i a hi hI k9 => ?_) (fun n a hI => ?_) gFU 0 (st0, 0) (by omega) (gFU_big (by omega)) ⟨rfl, Fr_rf, fun j hj => absurd hj (by omega)⟩
  · obtain ⟨s, x⟩ := a
    obtain ⟨e, h1, h2⟩ := hI
    dsimp only at e h1 h2
    subst e
    show w_X4_isKernel_l86 Φ E (n + 1) s _ _
    have e2 : ((3 : Int32) ≤ Int32.ofNat i) = (3 ≤ i) := le_of (m := 3) (by omega) (by omega)
    rw [w_X4_isKernel_l86, e2, vp_of (by omega), nn_of (by omega)]
    refine ⟨fun h => absurd h (by omega), fun _ => ⟨hi, ?_⟩⟩
    intro s9 hs9
    refine k9 (s9, _) ?_
    dsimp only
    subst hs9
    refine ⟨succ_of i, Fr_L h1 (Or.inl ⟨rfl, hi⟩), fun j hj => ?_⟩
    rw [gL_pL]
    by_cases e9 : j = i
    · rw [if_pos ⟨rfl, e9⟩]
    · rw [if_neg (fun h => e9 h.2)]; exact h2 j (by omega)
  · obtain ⟨s, x⟩ := a
    obtain ⟨e, h1, h2⟩ := hI
    dsimp only at e h1 h2
    subst e
    show w_X4_isKernel_l86 Φ E (n + 1) s _ _
    rw [w_X4_isKernel_l86]
    exact ⟨fun _ => h s h1 h2, fun h => absurd (Int32.le_refl _) h⟩
theorem s_l208 {Φ : St → Int32 → Prop} {E : St → Int32 → Int64 → Prop} {st : St} {T : Nat → Nat → Int64} {h w r : Nat} (hw : w ≤ 3) (hh : h ≤ 27) (hr : r < h) (hT : Tm st T h w) (hE : E st (Int32.ofNat r) (smL (fun c => T r c * sL st 192 c) w)) : w_X4_isKernel_l208 Φ E gFU st (Int32.ofNat r) 0 0 := by
  refine loop_up (α := Int64 × Int32) (L := fun n a => w_X4_isKernel_l208 Φ E n st (Int32.ofNat r) a.1 a.2) w (fun i a => a = (smL (fun c => T r c * sL st 192 c) i, Int32.ofNat i)) (fun n i a hi hI k9 => ?_) (fun n a hI => ?_) gFU 0 (0, 0) (by omega) (gFU_big (by omega)) rfl
  · subst hI
    show w_X4_isKernel_l208 Φ E (n + 1) st _ _ _
    dsimp only
    rw [w_X4_isKernel_l208, hT.2.1, le_of (by omega) (by omega)]
    refine ⟨fun h => absurd h (by omega), fun _ => s_at (T := T) (by omega) (by omega) (hT.2.2 r i hr hi) ?_⟩
    rw [vp_of (by omega), nn_of (by omega)]
    refine ⟨by omega, ?_⟩
    rintro _ rfl
    refine k9 (_, _) ?_
    rw [succ_of]; rfl
  · subst hI
    show w_X4_isKernel_l208 Φ E (n + 1) st _ _ _
    dsimp only
    rw [w_X4_isKernel_l208, hT.2.1]
    exact ⟨fun _ => hE, fun h => absurd (Int32.le_refl _) h⟩
theorem s_l277 {Φ : St → Int32 → Prop} {E : St → Int32 → Int64 → Prop} {st : St} {T : Nat → Nat → Int64} {h w c : Nat} (hw : w ≤ 3) (hh : h ≤ 27) (hc : c < w) (hT : Tm st T h w) (hE : E st (Int32.ofNat c) (smL (fun r => T r c * sL st 191 r) h)) : w_X4_isKernel_l277 Φ E gFU st (Int32.ofNat c) 0 0 := by
  refine loop_up (α := Int64 × Int32) (L := fun n a => w_X4_isKernel_l277 Φ E n st (Int32.ofNat c) a.1 a.2) h (fun i a => a = (smL (fun r => T r c * sL st 191 r) i, Int32.ofNat i)) (fun n i a hi hI k9 => ?_) (fun n a hI => ?_) gFU 0 (0, 0) (by omega) (gFU_big (by omega)) rfl
  · subst hI
    show w_X4_isKernel_l277 Φ E (n + 1) st _ _ _
    dsimp only
    rw [w_X4_isKernel_l277, hT.1, le_of (by omega) (by omega)]
    refine ⟨fun h => absurd h (by omega), fun _ => s_at (T := T) (by omega) (by omega) (hT.2.2 i c hi hc) ?_⟩
    rw [vp_of (by omega), nn_of (by omega)]
    refine ⟨by omega, ?_⟩
    rintro _ rfl
    refine k9 (_, _) ?_
    rw [succ_of]; rfl
  · subst hI
    show w_X4_isKernel_l277 Φ E (n + 1) st _ _ _
    dsimp only
    rw [w_X4_isKernel_l277, hT.1]
    exact ⟨fun _ => hE, fun h => absurd (Int32.le_refl _) h⟩
/-- rows hold, columns hold -/
theorem s_holdsM {st : St} {T : Nat → Nat → Int64} {h w : Nat} {V : Int64} {Φ : St → Int32 → Prop} (hw : w ≤ 3) (hh : h ≤ 27) (hT : Tm st T h w) (hV : sL st 175 30 = V) (h1 : (∀ r, r < h → smL (fun c => T r c * sL st 192 c) w ≤ V) → (∀ c, c < w → V ≤ smL (fun r => T r c * sL st 191 r) h) → Φ st 1) (h0 : (∃ r, r < h ∧ ¬ smL (fun c => T r c * sL st 192 c) w ≤ V) ∨ (∃ c, c < w ∧ ¬ V ≤ smL (fun r => T r c * sL st 191 r) h) → Φ st 0) : w_X4_isKernel_b192 Φ st := by
  unfold w_X4_isKernel_b192
  refine loop_up (α := Int32) (L := fun m x => w_X4_isKernel_l194 Φ (fun (s80 : St) => w_X4_isKernel_b253 Φ s80) (fun (s81 : St) => w_X4_isKernel_b261 Φ s81) m st x) h (fun i x => x = Int32.ofNat i ∧ ∀ r, r < i → smL (fun c => T r c * sL st 192 c) w ≤ V) (fun m i x hi hA k9 => ?_) (fun m x hA => ?_) gFU 0 0 (by omega) (gFU_big (by omega)) ⟨rfl, fun r hr => absurd hr (by omega)⟩
  · obtain ⟨rfl, hg⟩ := hA
    show w_X4_isKernel_l194 Φ _ _ (m + 1) st _
    rw [w_X4_isKernel_l194, hT.1, le_of (by omega) (by omega)]
    refine ⟨fun h => absurd h (by omega), fun _ => s_l208 hw hh hi hT ?_⟩
    unfold w_X4_isKernel_b243 w_X4_isKernel_b253
    rw [hV]
    refine ⟨fun hle => k9 _ ⟨succ_of i, fun r hr => ?_⟩, fun hle => h0 (Or.inl ⟨i, hi, hle⟩)⟩
    by_cases e : r = i
    · rw [e]; exact hle
    · exact hg r (by omega)
  · obtain ⟨rfl, hg⟩ := hA
    show w_X4_isKernel_l194 Φ _ _ (m + 1) st _
    rw [w_X4_isKernel_l194, hT.1]
    refine ⟨fun _ => ?_, fun h => absurd (Int32.le_refl _) h⟩
    unfold w_X4_isKernel_b261
    refine loop_up (α := Int32) (L := fun m x => w_X4_isKernel_l263 Φ (fun (s97 : St) => w_X4_isKernel_b322 Φ s97) (fun (s98 : St) => w_X4_isKernel_b330 Φ s98) m st x) w (fun i x => x = Int32.ofNat i ∧ ∀ c, c < i → V ≤ smL (fun r => T r c * sL st 191 r) h) (fun m i x hi hA k9 => ?_) (fun m x hA => ?_) gFU 0 0 (by omega) (gFU_big (by omega)) ⟨rfl, fun r hr => absurd hr (by omega)⟩
    · obtain ⟨rfl, hg2⟩ := hA
      show w_X4_isKernel_l263 Φ _ _ (m + 1) st _
      rw [w_X4_isKernel_l263, hT.2.1, le_of (by omega) (by omega)]
      refine ⟨fun h => absurd h (by omega), fun _ => s_l277 hw hh hi hT ?_⟩
      unfold w_X4_isKernel_b312 w_X4_isKernel_b322
      rw [hV]
      refine ⟨fun hle => k9 _ ⟨succ_of i, fun r hr => ?_⟩, fun hle => h0 (Or.inr ⟨i, hi, hle⟩)⟩
      by_cases e : r = i
      · rw [e]; exact hle
      · exact hg2 r (by omega)
    · obtain ⟨rfl, hg2⟩ := hA
      show w_X4_isKernel_l263 Φ _ _ (m + 1) st _
      rw [w_X4_isKernel_l263, hT.2.1]
      refine ⟨fun _ => ?_, fun h => absurd (Int32.le_refl _) h⟩
      unfold w_X4_isKernel_b330
      exact h1 hg hg2
