/-! PLAIN LAW, 53: a point split; the chain of sets -/
set_option maxRecDepth 100000
theorem low_sg {u w : Int64} (hw : 0 < w.toInt) : (0 < (lowR u w).1.toInt ↔ 0 < u.toInt) ∧ ((lowR u w).1.toInt < 0 ↔ u.toInt < 0) := by
  obtain ⟨g, a, b, hg, hu, -, -, -, h1, -⟩ := low_ex (u := u) hw
  rw [h1, hu]
  rcases Int.lt_trichotomy a 0 with h | h | h
  · have := Int.mul_neg_of_pos_of_neg hg h
    exact ⟨⟨fun g => by omega, fun g => by omega⟩, ⟨fun _ => this, fun _ => h⟩⟩
  · subst h
    rw [Int.mul_zero]; exact ⟨Iff.rfl, Iff.rfl⟩
  · have := Int.mul_pos hg h
    exact ⟨⟨fun _ => this, fun _ => h⟩, ⟨fun g => by omega, fun g => by omega⟩⟩
theorem wLo_low {K G p n : Nat} {S : Nat → Nat} {i : Nat} : wLo K G p n S i = lowR (Int64.ofInt (wUp K G p n S i)) (Int64.ofInt (upI (wDn K G n S) (wDn K G n S))) := rfl
/-- what is told of a set and a point -/
theorem wB {K G p n : Nat} {S : Nat → Nat} (hK : K = 2 ∨ K = 3) (hG : 1 ≤ G ∧ G ≤ 4) (hn : 1 ≤ n ∧ n ≤ 3) (hp : p < ptN K G) (hS : ∀ i, i < n → S i < ptN K G) (hd : n = 2 → S 0 ≠ S 1) (h : wOk K G p n S) : 0 < (Int64.ofInt (upI (wDn K G n S) (wDn K G n S))).toInt ∧ ∀ i, i < n → (Int64.ofInt (wUp K G p n S i)).toInt = wUp K G p n S i ∧ (0 < (wLo K G p n S i).2.toInt) ∧ (0 < (wLo K G p n S i).1.toInt ↔ 0 < wUp K G p n S i) ∧ ((wLo K G p n S i).1.toInt < 0 ↔ wUp K G p n S i < 0) := by
  obtain ⟨b1, b2⟩ := w_b hK hG hn hp hS
  have hz := wDn_nz hK hG hS hd h
  have e1 : (Int64.ofInt (upI (wDn K G n S) (wDn K G n S))).toInt = upI (wDn K G n S) (wDn K G n S) := t64i (by unfold upI fit; split <;> omega)
  have hpos : 0 < (Int64.ofInt (upI (wDn K G n S) (wDn K G n S))).toInt := by rw [e1]; exact upn (x := 0) hz
  refine ⟨hpos, fun i hi => ?_⟩
  have e2 : (Int64.ofInt (wUp K G p n S i)).toInt = wUp K G p n S i := t64i (by have := b2 i; unfold wUp fit; split <;> omega)
  have hs := low_sg (u := Int64.ofInt (wUp K G p n S i)) hpos
  rw [wLo_low]
  rw [e2] at hs
  exact ⟨e2, (low_pos hpos).1, hs.1, hs.2⟩
def linE (a b c : Nat → Int) (k : Nat) : Bool := (a k - b k) * (c (axF b c) - b (axF b c)) == (a (axF b c) - b (axF b c)) * (c k - b k)
def linB (a b c : Nat → Int) : Bool := linE a b c 0 && (linE a b c 1 && linE a b c 2)
theorem linB_iff {a b c : Nat → Int} : linB a b c = true ↔ linF a b c := by
  unfold linB linF
  rw [Bool.and_eq_true_iff, Bool.and_eq_true_iff]
  constructor
  · rintro ⟨h0, h1, h2⟩ k hk
    rcases (by omega : k = 0 ∨ k = 1 ∨ k = 2) with rfl | rfl | rfl
    · exact eq_of_beq h0
    · exact eq_of_beq h1
    · exact eq_of_beq h2
  · intro h
    exact ⟨beq_iff_eq.mpr (h 0 (by omega)), beq_iff_eq.mpr (h 1 (by omega)), beq_iff_eq.mpr (h 2 (by omega))⟩
def wOkB (K G p n : Nat) (S : Nat → Nat) : Bool := if n = 1 then decide (S 0 = p) else if n = 2 then linB (cI K G p) (cI K G (S 0)) (cI K G (S 1)) else decide (wDn K G n S ≠ 0)
theorem okB_iff {K G p n : Nat} {S : Nat → Nat} : wOkB K G p n S = true ↔ wOk K G p n S := by
  unfold wOkB wOk
  split
  · exact decide_eq_true_iff
  · split
    · exact linB_iff
    · exact decide_eq_true_iff
/-- whether the set splits the point -/
def spB (K G p n : Nat) (S : Nat → Nat) : Bool := wOkB K G p n S && decide (∀ i, i < n → 0 < wUp K G p n S i)
theorem spB_t {K G p n : Nat} {S : Nat → Nat} : spB K G p n S = true ↔ wOk K G p n S ∧ ∀ i, i < n → 0 < wUp K G p n S i := by
  unfold spB
  rw [Bool.and_eq_true_iff, okB_iff, decide_eq_true_iff]
/-- all that are told are above -/
theorem x_above {st : St} {n : Nat} {P : Nat → Prop} {Φ : St → Int32 → Prop} {Φa : St → Prop} {E : St → Int32 → Prop} (hn : n ≤ 3) (hP : ∀ i, i < n → (0 < (pR st (164 + 2 * i)).1.toInt ↔ P i)) (h1 : (∀ i, i < n → P i) → E st 1) (h0 : (¬ ∀ i, i < n → P i) → E st 0) : w_X0_splits_l12 Φ Φa E gFU st (Int32.ofNat n) 1 0 := by
  refine loop_up (α := Int32 × Int32) (L := fun m a => w_X0_splits_l12 Φ Φa E m st (Int32.ofNat n) a.1 a.2) n (fun i a => a.2 = Int32.ofNat i ∧ ((a.1 = 1 ∧ ∀ k, k < i → P k) ∨ (a.1 = 0 ∧ ¬ ∀ k, k < n → P k))) (fun m i a hi hA k9 => ?_) (fun m a hA => ?_) gFU 0 (1, 0) (by omega) (gFU_big (by omega)) ⟨rfl, Or.inl ⟨rfl, fun k hk => absurd hk (by omega)⟩⟩
  · obtain ⟨x, y⟩ := a
    obtain ⟨e, hA⟩ := hA
    dsimp only at e hA
    subst e
    show w_X0_splits_l12 Φ Φa E (m + 1) st _ x _
    rw [w_X0_splits_l12, le_of (by omega) (by omega), vp_of (by omega), nn_of (by omega)]
    refine ⟨fun h => absurd h (by omega), fun _ => ?_⟩
    rcases hA with ⟨rfl, hA⟩ | ⟨rfl, hA⟩
    · refine ⟨fun h => absurd h (by decide), fun _ => ⟨by omega, ?_⟩⟩
      unfold w_X2_isAbove
      have hle : (sL st (164 + 2 * i) 0 ≤ 0) = ¬ P i := by
        rw [← hP i hi]
        apply propext
        show _ ↔ ¬ (0 < (sL st (164 + 2 * i) 0).toInt)
        rw [Int64.le_iff_toInt_le]
        show _ ≤ (0 : Int) ↔ _
        omega
      rw [hle]
      have nx : ∀ x, ((x = 1 ∧ ∀ k, k < i + 1 → P k) ∨ (x = 0 ∧ ¬ ∀ k, k < n → P k)) → w_X0_splits_l12 Φ Φa E m st (Int32.ofNat n) x (Int32.ofNat i + 1) := fun x hx => by
        have hk := k9 (x, Int32.ofNat i + 1)
        dsimp only at hk
        exact hk ⟨succ_of i, hx⟩
      refine ⟨fun h => nx 0 (Or.inr ⟨rfl, fun g => h (g i hi)⟩), fun h => nx 1 (Or.inl ⟨rfl, fun k hk => ?_⟩)⟩
      by_cases e : k = i
      · subst e; exact Classical.byContradiction h
      · exact hA k (by omega)
    · exact ⟨fun _ => h0 hA, fun h => absurd rfl h⟩
  · obtain ⟨x, y⟩ := a
    obtain ⟨e, hA⟩ := hA
    dsimp only at e hA
    subst e
    show w_X0_splits_l12 Φ Φa E (m + 1) st _ x _
    rw [w_X0_splits_l12]
    refine ⟨fun _ => ?_, fun h => absurd (Int32.le_refl _) h⟩
    rcases hA with ⟨rfl, hA⟩ | ⟨rfl, hA⟩
    · exact h1 hA
    · exact h0 hA
theorem x_splits {st : St} {K G M N p n : Nat} {S : Nat → Nat} {Φ : St → Int32 → Prop} {Φa : St → Prop} (hs : Hs st K G M N) (hp : p < ptN K G) (hn : 1 ≤ n ∧ n ≤ 3) (hS : ∀ i, i < n → S i < ptN K G) (hd : n = 2 → S 0 ≠ S 1) (hv : ∀ i, i < n → sI st 136 i = Int32.ofNat (S i)) (h1 : spB K G p n S = true → ∀ s, Fr wWx 0 0 st s → (∀ i, i < n → pR s (164 + 2 * i) = wLo K G p n S i) → Φ s 1) (h0 : spB K G p n S = false → ∀ s, Fr wWx 0 0 st s → Φ s 0) : w_X0_splits st (Int32.ofNat p) 136 (Int32.ofNat n) Φ Φa := by
  have q1 := hs.1
  have q2 := hs.2.1
  have hf : ¬ (wOk K G p n S ∧ ∀ i, i < n → 0 < wUp K G p n S i) → spB K G p n S = false := fun h => by
    cases hc : spB K G p n S with
    | false => rfl
    | true => exact absurd (spB_t.mp hc) h
  unfold w_X0_splits
  refine x_weighs hs hp hn hS hd hv (fun hk s F hw => ?_) (fun hk s F => ?_)
  · obtain ⟨-, w2⟩ := wB q1 q2 hn hp hS hd hk
    refine x_above (P := fun i => 0 < wUp K G p n S i) (by omega) (fun i hi => by rw [hw i hi]; exact (w2 i hi).2.2.1) (fun g => ?_) (fun g => ?_)
    · unfold w_X0_splits_b41
      exact ⟨Or.inr rfl, h1 (spB_t.mpr ⟨hk, g⟩) s F hw⟩
    · unfold w_X0_splits_b41
      exact ⟨Or.inl rfl, h0 (hf (fun h => g h.2)) s F⟩
  · obtain ⟨f, hf2⟩ : ∃ f, gFU = f + 1 := ⟨gFU - 1, by unfold gFU; omega⟩
    rw [hf2, w_X0_splits_l12]
    have z0 : (Int32.ofNat n ≤ (0 : Int32)) = (n ≤ 0) := le_of (n := 0) (by omega) (by omega)
    rw [z0]
    refine ⟨fun h => absurd h (by omega), fun _ => ⟨fun _ => ?_, fun h => absurd rfl h⟩⟩
    unfold w_X0_splits_b41
    exact ⟨Or.inl rfl, h0 (hf (fun h => hk h.1)) s F⟩
/-- the reference: all at or above a bound -/
theorem m_above {st : St} {n : Nat} {t : Int} {u : Nat → Int} {Φ : Int32 → Prop} (hn : n ≤ 3) (ht : fit t) (h36 : sI st 175 36 = Int32.ofNat n) (hu : ∀ i, i < n → (sL st 198 i).toInt = u i) (h : Φ (ib (decide (∀ i, i < n → t ≤ u i)))) : w_X4_areAbove st (Int64.ofInt t) Φ := by
  unfold w_X4_areAbove
  refine loop_up (α := Int32 × Int32) (L := fun m a => w_X4_areAbove_l5 Φ (fun (_ : St) (x3 : Int32) => w_X4_areAbove_b42 Φ st x3) m st (Int64.ofInt t) a.1 a.2) n (fun i a => a.2 = Int32.ofNat i ∧ a.1 = ib (decide (∀ k, k < i → t ≤ u k))) (fun m i a hi hA k9 => ?_) (fun m a hA => ?_) gFU 0 (1, 0) (by omega) (gFU_big (by omega)) ⟨rfl, by rw [decide_eq_true (fun k hk => absurd hk (by omega))]; rfl⟩
  · obtain ⟨x, y⟩ := a
    obtain ⟨e, hA⟩ := hA
    dsimp only at e hA
    subst e
    show w_X4_areAbove_l5 Φ _ (m + 1) st _ x _
    have nx : ∀ x, x = ib (decide (∀ k, k < i + 1 → t ≤ u k)) → w_X4_areAbove_l5 Φ (fun (_ : St) (x3 : Int32) => w_X4_areAbove_b42 Φ st x3) m st (Int64.ofInt t) x (Int32.ofNat i + 1) := fun x hx => by
      have hk := k9 (x, Int32.ofNat i + 1)
      dsimp only at hk
      exact hk ⟨succ_of i, hx⟩
    rw [w_X4_areAbove_l5, h36, le_of (by omega) (by omega), vp_of (by omega), nn_of (by omega), lt64, hu i hi, t64i ht]
    unfold w_X4_areAbove_b34 w_X4_areAbove_b35
    refine ⟨fun h => absurd h (by omega), fun _ => ?_⟩
    rw [hA, ib_z]
    refine ⟨fun hc => nx 0 ?_, fun hc => ⟨by omega, fun hl => nx 0 ?_, fun hl => nx 1 ?_⟩⟩
    · rw [decide_eq_false (fun g => (of_decide_eq_false hc) (fun k hk => g k (by omega)))]; rfl
    · rw [decide_eq_false (fun g => by have := g i (by omega); omega)]; rfl
    · have hc' : ∀ k, k < i → t ≤ u k := by
        cases hd : decide (∀ k, k < i → t ≤ u k) with
        | false => exact absurd hd hc
        | true => exact of_decide_eq_true hd
      rw [decide_eq_true (fun k hk => by
        by_cases e : k = i
        · subst e; omega
        · exact hc' k (by omega))]; rfl
  · obtain ⟨x, y⟩ := a
    obtain ⟨e, hA⟩ := hA
    dsimp only at e hA
    subst e
    show w_X4_areAbove_l5 Φ _ (m + 1) st _ x _
    rw [w_X4_areAbove_l5, h36]
    refine ⟨fun _ => ?_, fun h => absurd (Int32.le_refl _) h⟩
    unfold w_X4_areAbove_b42
    rw [hA]
    exact ⟨by rw [ib_01]; trivial, h⟩
/-! sets of points in order -/
def gT (s : Nat × Nat × Nat) (k : Nat) : Nat := if k = 0 then s.1 else if k = 1 then s.2.1 else s.2.2
def nr1 (P a : Nat) : Option (Nat × Nat × Nat) := if a < P then some (a, 0, 0) else none
def nr2 (P a b : Nat) : Option (Nat × Nat × Nat) := if b < P then some (a, b, 0) else if a + 2 < P then some (a + 1, a + 2, 0) else none
def nr3 (P a b c : Nat) : Option (Nat × Nat × Nat) := if c < P then some (a, b, c) else if b + 2 < P then some (a, b + 1, b + 2) else if a + 3 < P then some (a + 1, a + 2, a + 3) else none
/-- the next set of n points -/
def nxS (P n : Nat) (s : Nat × Nat × Nat) : Option (Nat × Nat × Nat) := if n = 1 then nr1 P (s.1 + 1) else if n = 2 then nr2 P s.1 (s.2.1 + 1) else nr3 P s.1 s.2.1 (s.2.2 + 1)
def s0S (n : Nat) : Nat × Nat × Nat := if n = 1 then (0, 0, 0) else if n = 2 then (0, 1, 0) else (0, 1, 2)
def Val (P n : Nat) (s : Nat × Nat × Nat) : Prop := (n = 1 ∧ s.1 < P ∧ s.2.1 = 0 ∧ s.2.2 = 0) ∨ (n = 2 ∧ s.1 < s.2.1 ∧ s.2.1 < P ∧ s.2.2 = 0) ∨ (n = 3 ∧ s.1 < s.2.1 ∧ s.2.1 < s.2.2 ∧ s.2.2 < P)
theorem val_0 {P n : Nat} (hn : 1 ≤ n ∧ n ≤ 3) (h : n ≤ P) : Val P n (s0S n) := by
  unfold s0S Val
  rcases (by omega : n = 1 ∨ n = 2 ∨ n = 3) with rfl | rfl | rfl
  · left; simp; omega
  · right; left; simp; omega
  · right; right; simp; omega
theorem val_nx {P n : Nat} {s t : Nat × Nat × Nat} (h : Val P n s) (e : nxS P n s = some t) : Val P n t := by
  obtain ⟨a, b, c⟩ := s
  unfold nxS at e
  unfold Val at h ⊢
  dsimp only at h e
  rcases h with ⟨rfl, h⟩ | ⟨rfl, h⟩ | ⟨rfl, h⟩
  · rw [if_pos rfl] at e
    unfold nr1 at e
    split at e
    · cases e; left; dsimp only; omega
    · cases e
  · rw [if_neg (by omega), if_pos rfl] at e
    unfold nr2 at e
    right; left
    split at e
    · cases e; dsimp only; omega
    · split at e
      · cases e; dsimp only; omega
      · cases e
  · rw [if_neg (by omega), if_neg (by omega)] at e
    unfold nr3 at e
    right; right
    split at e
    · cases e; dsimp only; omega
    · split at e
      · cases e; dsimp only; omega
      · split at e
        · cases e; dsimp only; omega
        · cases e
def rkS (P : Nat) (s : Nat × Nat × Nat) : Nat := 256 * (P - s.1) + 16 * (P - s.2.1) + (P - s.2.2)
theorem rk_nx {P n : Nat} {s t : Nat × Nat × Nat} (hP : P ≤ 15) (h : Val P n s) (e : nxS P n s = some t) : rkS P t < rkS P s := by
  obtain ⟨a, b, c⟩ := s
  unfold nxS at e
  unfold Val at h
  unfold rkS
  dsimp only at h e ⊢
  rcases h with ⟨rfl, h⟩ | ⟨rfl, h⟩ | ⟨rfl, h⟩
  · rw [if_pos rfl] at e
    unfold nr1 at e
    split at e
    · cases e; dsimp only; omega
    · cases e
  · rw [if_neg (by omega), if_pos rfl] at e
    unfold nr2 at e
    split at e
    · cases e; dsimp only; omega
    · split at e
      · cases e; dsimp only; omega
      · cases e
  · rw [if_neg (by omega), if_neg (by omega)] at e
    unfold nr3 at e
    split at e
    · cases e; dsimp only; omega
    · split at e
      · cases e; dsimp only; omega
      · split at e
        · cases e; dsimp only; omega
        · cases e
theorem gT_lt {P n : Nat} {s : Nat × Nat × Nat} (h : Val P n s) : 1 ≤ n ∧ n ≤ 3 ∧ (∀ i, i < n → gT s i < P) ∧ (n = 2 → gT s 0 ≠ gT s 1) := by
  unfold Val at h
  refine ⟨by omega, by omega, fun i hi => ?_, fun e => ?_⟩
  · unfold gT
    split
    · omega
    · split <;> omega
  · unfold gT
    rw [if_pos rfl, if_neg (by omega), if_pos rfl]
    omega
/-- a run through the sets from one on: what is gathered -/
def Rn {A : Type} (P n : Nat) (T : Nat × Nat × Nat → A → A) : Nat → Option (Nat × Nat × Nat) → A → A → Prop
  | 0, q, a, r => q = none ∧ r = a
  | l + 1, q, a, r => ∃ s, q = some s ∧ Rn P n T l (nxS P n s) (T s a) r
theorem Rn_inv {A : Type} {P n : Nat} {T : Nat × Nat × Nat → A → A} {l : Nat} {s : Nat × Nat × Nat} {a r : A} (h : Rn P n T l (some s) a r) : ∃ k, l = k + 1 ∧ Rn P n T k (nxS P n s) (T s a) r := by
  cases l with
  | zero => cases h.1
  | succ k =>
    obtain ⟨s', e, h⟩ := h
    cases e
    exact ⟨k, rfl, h⟩
theorem Rn_end {A : Type} {P n : Nat} {T : Nat × Nat × Nat → A → A} {l : Nat} {a r : A} (h : Rn P n T l none a r) : r = a := by
  cases l with
  | zero => exact h.2
  | succ k => obtain ⟨s', e, -⟩ := h; cases e
theorem Rn_ex {A : Type} {P n : Nat} {T : Nat × Nat × Nat → A → A} (hP : P ≤ 15) : ∀ (m : Nat) (s : Nat × Nat × Nat) (a : A), Val P n s → rkS P s < m → ∃ l r, l ≤ m ∧ Rn P n T l (some s) a r
  | 0, _, _, _, h => absurd h (by omega)
  | m + 1, s, a, hv, h => by
    cases e : nxS P n s with
    | none => exact ⟨1, T s a, by omega, s, rfl, e, rfl⟩
    | some t =>
      obtain ⟨l, r, h1, h2⟩ := Rn_ex hP m t (T s a) (val_nx hv e) (by have := rk_nx hP hv e; omega)
      exact ⟨l + 1, r, by omega, s, rfl, by rw [e]; exact h2⟩
