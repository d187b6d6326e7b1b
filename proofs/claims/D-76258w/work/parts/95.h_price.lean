/-! PLAIN LAW, 63: price -/
set_option maxRecDepth 100000
theorem lin_2 {G : Nat} (hG : 1 ≤ G ∧ G ≤ 4) {p q r : Nat} (hp : p < ptN 2 G) (hq : q < ptN 2 G) (hr : r < ptN 2 G) : linF (cI 2 G p) (cI 2 G q) (cI 2 G r) := by
  have f : ∀ p, p < ptN 2 G → cI 2 G p 0 = (p : Int) ∧ cI 2 G p 1 = (G : Int) - (p : Int) ∧ cI 2 G p 2 = 0 := fun p hp => by
    obtain ⟨h1, h2, h3, h4⟩ := pt2 G (by omega) hG.1 p hp
    unfold cI
    rw [h1, h2, h3]
    refine ⟨rfl, by omega, rfl⟩
  obtain ⟨a0, a1, a2⟩ := f p hp
  obtain ⟨b0, b1, b2⟩ := f q hq
  obtain ⟨c0, c1, c2⟩ := f r hr
  intro k hk
  have hz : axF (cI 2 G q) (cI 2 G r) = 0 ∨ axF (cI 2 G q) (cI 2 G r) = 1 := by unfold axF; split <;> omega
  rcases hz with hz | hz <;> rw [hz] <;> rcases (by omega : k = 0 ∨ k = 1 ∨ k = 2) with rfl | rfl | rfl
  · rw [a0, b0, c0]
  · rw [a0, b0, c0, a1, b1, c1]; grind
  · rw [a2, b2, c2]; simp
  · rw [a0, b0, c0, a1, b1, c1]; grind
  · rw [a1, b1, c1]
  · rw [a2, b2, c2]; simp
/-- a set that weighs one point weighs all -/
theorem ok_all {K G p q : Nat} {s : Nat × Nat × Nat} (hK : K = 2 ∨ K = 3) (hG : 1 ≤ G ∧ G ≤ 4) (hV : Val (ptN K G) K s) (hq : q < ptN K G) (h : wOk K G p K (gT s)) : wOk K G q K (gT s) := by
  obtain ⟨-, -, g1, -⟩ := gT_lt hV
  rcases hK with rfl | rfl
  · unfold wOk
    rw [if_neg (by omega), if_pos rfl]
    exact lin_2 hG hq (g1 0 (by omega)) (g1 1 (by omega))
  · unfold wOk at h ⊢
    rw [if_neg (by omega), if_neg (by omega)] at h ⊢
    exact h
/-- a point: does the mixture reach its value -/
def cvF (K G M N : Nat) (f : Nat → Nat → Nat → Int32) (s : Nat × Nat × Nat) (q : Nat) : Option Bool := (mixF K G M N q f K s).bind fun v => (lessR v (uR K G M N q f)).map fun d => decide (0 ≤ d.1.toInt)
def cvA (K G M N : Nat) (f : Nat → Nat → Nat → Int32) (s : Nat × Nat × Nat) : Nat → Option Bool
  | 0 => some true
  | i + 1 => match cvA K G M N f s i with
    | some true => cvF K G M N f s i
    | o => o
theorem cvA_no {K G M N : Nat} {f : Nat → Nat → Nat → Int32} {s : Nat × Nat × Nat} : ∀ d i, cvA K G M N f s i ≠ some true → cvA K G M N f s (i + d) = cvA K G M N f s i
  | 0, _, _ => rfl
  | d + 1, i, h => by
    rw [show i + (d + 1) = (i + d) + 1 by omega, cvA, cvA_no d i h]
    cases hc : cvA K G M N f s i with
    | none => rfl
    | some c => cases c with
      | true => exact absurd hc h
      | false => rfl
theorem cvA_end {K G M N : Nat} {f : Nat → Nat → Nat → Int32} {s : Nat × Nat × Nat} {i P : Nat} (hi : i < P) (h : cvA K G M N f s i = some true) (hn : cvF K G M N f s i ≠ some true) : cvA K G M N f s P = cvF K G M N f s i := by
  have e : cvA K G M N f s (i + 1) = cvF K G M N f s i := by rw [cvA, h]
  have := cvA_no (P - (i + 1)) (i + 1) (by rw [e]; exact hn)
  rw [show i + 1 + (P - (i + 1)) = P by omega, e] at this
  exact this
/-- whether the point lies within the set -/
def hwB (K G p : Nat) (s : Nat × Nat × Nat) : Bool := wOkB K G p K (gT s) && decide (∀ i, i < K → 0 ≤ wUp K G p K (gT s) i)
theorem hwB_t {K G p : Nat} {s : Nat × Nat × Nat} : hwB K G p s = true ↔ wOk K G p K (gT s) ∧ ∀ i, i < K → 0 ≤ wUp K G p K (gT s) i := by
  unfold hwB
  rw [Bool.and_eq_true_iff, okB_iff, decide_eq_true_iff]
def ptT (K G M N p : Nat) (f : Nat → Nat → Nat → Int32) (s : Nat × Nat × Nat) : Option Bool := if hwB K G p s = true then cvA K G M N f s (ptN K G) else some false
/-- the search for a set that prices: none = a number grew too great -/
def Rp (P n : Nat) (T : Nat × Nat × Nat → Option Bool) : Nat → Option (Nat × Nat × Nat) → Option (Option (Nat × Nat × Nat)) → Prop
  | 0, q, r => q = none ∧ r = some none
  | l + 1, q, r => ∃ s, q = some s ∧ ((T s = none ∧ r = none) ∨ (T s = some true ∧ r = some (some s)) ∨ (T s = some false ∧ Rp P n T l (nxS P n s) r))
theorem Rp_inv {P n : Nat} {T : Nat × Nat × Nat → Option Bool} {l : Nat} {s : Nat × Nat × Nat} {r : Option (Option (Nat × Nat × Nat))} (h : Rp P n T l (some s) r) : ∃ k, l = k + 1 ∧ ((T s = none ∧ r = none) ∨ (T s = some true ∧ r = some (some s)) ∨ (T s = some false ∧ Rp P n T k (nxS P n s) r)) := by
  cases l with
  | zero => cases h.1
  | succ k =>
    obtain ⟨s', e, h⟩ := h
    cases e
    exact ⟨k, rfl, h⟩
theorem Rp_end {P n : Nat} {T : Nat × Nat × Nat → Option Bool} {l : Nat} {r : Option (Option (Nat × Nat × Nat))} (h : Rp P n T l none r) : r = some none := by
  cases l with
  | zero => exact h.2
  | succ k => obtain ⟨s', e, -⟩ := h; cases e
theorem Rp_ex {P n : Nat} {T : Nat × Nat × Nat → Option Bool} (hP : P ≤ 15) : ∀ (m : Nat) (s : Nat × Nat × Nat), Val P n s → rkS P s < m → ∃ l r, l ≤ m ∧ Rp P n T l (some s) r
  | 0, _, _, h => absurd h (by omega)
  | m + 1, s, hv, h => by
    cases hT : T s with
    | none => exact ⟨1, none, by omega, s, rfl, Or.inl ⟨hT, rfl⟩⟩
    | some c =>
      cases c with
      | true => exact ⟨1, some (some s), by omega, s, rfl, Or.inr (Or.inl ⟨hT, rfl⟩)⟩
      | false =>
        cases e : nxS P n s with
        | none => exact ⟨1, some none, by omega, s, rfl, Or.inr (Or.inr ⟨hT, e, rfl⟩)⟩
        | some t =>
          obtain ⟨l, r, h1, h2⟩ := Rp_ex hP m t (val_nx hv e) (by have := rk_nx hP hv e; omega)
          exact ⟨l + 1, r, by omega, s, rfl, Or.inr (Or.inr ⟨hT, by rw [e]; exact h2⟩)⟩
theorem isBl {st : St} {a : Nat} {Φ : Int32 → Prop} (h1 : (pR st a).1.toInt < 0 → Φ 1) (h0 : ¬ (pR st a).1.toInt < 0 → Φ 0) : w_X2_isBelow st a Φ := by
  unfold w_X2_isBelow
  rw [ge064]
  refine ⟨fun h => h0 ?_, fun h => h1 ?_⟩
  · show ¬ (sL st a 0).toInt < 0; omega
  · show (sL st a 0).toInt < 0; omega
/-- the component: is the point within the set -/
theorem x_within {st0 st : St} {K G M N p : Nat} {f : Nat → Nat → Nat → Int32} {s : Nat × Nat × Nat} {Φ : St → Int32 → Prop} {Φa : St → Prop} (hN : 201 ≤ sN st0) (hX : Xh st0 st K G M N f) (hp : p < ptN K G) (hV : Val (ptN K G) K s) (hv : ∀ k, k < K → sI st 136 k = Int32.ofNat (gT s k)) (h : ∀ s', Xh st0 s' K G M N f → (∀ k, k < K → sI s' 136 k = Int32.ofNat (gT s k)) → Φ s' (ib (hwB K G p s))) : w_X0_holdsWithin st (Int32.ofNat p) Φ Φa := by
  obtain ⟨n1, n3, g1, g2⟩ := gT_lt hV
  have q1 := hX.2.1.1
  have q2 := hX.2.1.2.1
  have hNs : 201 ≤ sN st := Nat.le_trans hN hX.1.1
  have hK0 : ∀ s, Xh st0 s K G M N f → sI s 2 0 = Int32.ofNat K := fun s hx => hx.2.1.2.2.2.2.2.2.2.2.1
  have hf : ¬ (wOk K G p K (gT s) ∧ ∀ i, i < K → 0 ≤ wUp K G p K (gT s) i) → hwB K G p s = false := fun h => by
    cases hc : hwB K G p s with
    | false => rfl
    | true => exact absurd (hwB_t.mp hc) h
  unfold w_X0_holdsWithin
  rw [hK0 st hX]
  have k136 : ∀ s5, Fr wWx 0 0 st s5 → ∀ k, k < K → sI s5 136 k = Int32.ofNat (gT s k) := fun s5 F k hk => (fr_at F (Or.inl (by omega)) (by unfold wWx; omega)).1.trans (hv k hk)
  refine x_weighs hX.2.1 hp ⟨n1, n3⟩ g1 g2 hv (fun hok s5 F5 hW => ⟨fun _ => ?_, fun h => absurd h (by decide)⟩) (fun hok s5 F5 => ⟨fun h => absurd rfl h, fun _ => ?_⟩)
  · have X5 := Xh_st hN hX F5 (fun _ _ h => Or.inl h)
    obtain ⟨-, w2⟩ := wB q1 q2 ⟨n1, n3⟩ hp g1 g2 hok
    have h5 := h s5 X5 (k136 s5 F5)
    refine loop_up (α := Int32) (L := fun m x => w_X0_holdsWithin_l23 Φ Φa (fun (s26 : St) => w_X0_holdsWithin_b46 Φ Φa s26) (fun (s27 : St) => w_X0_holdsWithin_b54 Φ Φa s27) m s5 x) K (fun i x => x = Int32.ofNat i ∧ ∀ k, k < i → 0 ≤ wUp K G p K (gT s) k) (fun m i x hi hA k9 => ?_) (fun m x hA => ?_) gFU 0 0 (by omega) (gFU_big (by omega)) ⟨rfl, fun k hk => absurd hk (by omega)⟩
    · obtain ⟨e, hA⟩ := hA
      subst e
      rw [w_X0_holdsWithin_l23, hK0 s5 X5, le_of (by omega) (by omega), vp_of (by omega), nn_of (by omega)]
      refine ⟨fun h => absurd h (by omega), fun _ => ⟨by omega, isBl (fun hb => ⟨fun h => absurd h (by decide), fun _ => ?_⟩) (fun hb => ⟨fun _ => k9 _ ⟨succ_of i, fun k hk => ?_⟩, fun h => absurd rfl h⟩)⟩⟩
      · rw [hW i hi, (w2 i hi).2.2.2] at hb
        unfold w_X0_holdsWithin_b46
        rw [hf (fun g => by have := g.2 i hi; omega)] at h5
        exact h5
      · rw [hW i hi, (w2 i hi).2.2.2] at hb
        by_cases e : k = i
        · subst e; omega
        · exact hA k (by omega)
    · obtain ⟨e, hA⟩ := hA
      subst e
      rw [w_X0_holdsWithin_l23, hK0 s5 X5]
      refine ⟨fun _ => ?_, fun h => absurd (Int32.le_refl _) h⟩
      unfold w_X0_holdsWithin_b54
      rw [hwB_t.mpr ⟨hok, hA⟩] at h5
      exact h5
  · have h5 := h s5 (Xh_st hN hX F5 (fun _ _ h => Or.inl h)) (k136 s5 F5)
    rw [hf (fun g => hok g.1)] at h5
    exact h5
/-- the component weighs and mixes on a set that weighs -/
theorem x_wmix {st0 st : St} {K G M N q : Nat} {f : Nat → Nat → Nat → Int32} {s : Nat × Nat × Nat} {Φ : St → Nat → Prop} {Φa : St → Prop} (hN : 201 ≤ sN st0) (hX : Xh st0 st K G M N f) (hq : q < ptN K G) (hV : Val (ptN K G) K s) (hok : wOk K G q K (gT s)) (hv : ∀ k, k < K → sI st 136 k = Int32.ofNat (gT s k)) (h1 : ∀ v, mixF K G M N q f K s = some v → 0 < v.2.toInt → ∀ s', Xh st0 s' K G M N f → (∀ k, k < K → sI s' 136 k = Int32.ofNat (gT s k)) → pR s' 139 = v → Φ s' 139) (h2 : mixF K G M N q f K s = none → ∀ s', Fr wHx 0 0 st0 s' → jkA s' Φa) : w_X0_weighs st (Int32.ofNat q) 136 (Int32.ofNat K) (fun s82 _ => w_X0_mixes s82 136 (sI s82 2 0) Φ Φa) Φa := by
  obtain ⟨n1, n3, g1, g2⟩ := gT_lt hV
  have q1 := hX.2.1.1
  have q2 := hX.2.1.2.1
  have hp15 := pt15 q1 q2
  have hNs : 201 ≤ sN st := Nat.le_trans hN hX.1.1
  refine x_weighs hX.2.1 hq ⟨n1, n3⟩ g1 g2 hv (fun _ s5 F5 hW => ?_) (fun h => absurd hok h)
  have X5 := Xh_st hN hX F5 (fun _ _ h => Or.inl h)
  have hN5 : 201 ≤ sN s5 := Nat.le_trans hNs F5.1
  have v5 : ∀ k, k < K → sI s5 136 k = Int32.ofNat (gT s k) := fun k hk => (fr_at F5 (Or.inl (by omega)) (by unfold wWx; omega)).1.trans (hv k hk)
  obtain ⟨-, w2⟩ := wB q1 q2 ⟨n1, n3⟩ hq g1 g2 hok
  rw [X5.2.1.2.2.2.2.2.2.2.2.1]
  have hpp : ∀ i, i < K → 0 < (wLo K G q K (gT s) i).2.toInt ∧ 0 < (uR K G M N (gT s i) f).2.toInt := fun i hi => ⟨(w2 i hi).2.1, (X5.2.2.2 _ (g1 i hi)).2⟩
  refine x_mixes (S := gT s) (W := wLo K G q K (gT s)) (U := fun i => uR K G M N (gT s i) f) hN5 n3 (fun i hi => ⟨v5 i hi, by have := g1 i hi; omega⟩) hW (fun i hi => (X5.2.2.2 _ (g1 i hi)).1) hpp X5.2.2.1 (fun v hm s38 F38 p38 => ?_) (fun hm s38 F38 => h2 hm s38 (Xh_st hN X5 F38 (fun _ _ h => Or.inr (Or.inl h))).1)
  exact h1 v hm (mxO_p K v hpp hm) s38 (Xh_st hN X5 F38 (fun _ _ h => Or.inr (Or.inl h))) (fun k hk => (fr_at F38 (Or.inl (by omega)) (by unfold wMx; omega)).1.trans (v5 k hk)) p38
/-- the component: the mixture reaches every point -/
theorem x_covers {st0 st : St} {K G M N p : Nat} {f : Nat → Nat → Nat → Int32} {s : Nat × Nat × Nat} {Φ : St → Int32 → Prop} {Φa : St → Prop} (hN : 201 ≤ sN st0) (hX : Xh st0 st K G M N f) (hV : Val (ptN K G) K s) (hok : wOk K G p K (gT s)) (hv : ∀ k, k < K → sI st 136 k = Int32.ofNat (gT s k)) (h1 : ∀ c, cvA K G M N f s (ptN K G) = some c → ∀ s', Xh st0 s' K G M N f → (∀ k, k < K → sI s' 136 k = Int32.ofNat (gT s k)) → Φ s' (ib c)) (h2 : cvA K G M N f s (ptN K G) = none → ∀ s', Fr wHx 0 0 st0 s' → jkA s' Φa) : w_X0_covers st Φ Φa := by
  have q1 := hX.2.1.1
  have q2 := hX.2.1.2.1
  have hp15 := pt15 q1 q2
  unfold w_X0_covers
  refine loop_up (α := St × Int32) (L := fun m a => w_X0_covers_l2 Φ Φa (fun (s50 : St) => w_X0_covers_b64 Φ Φa s50) (fun (s51 : St) => w_X0_covers_b72 Φ Φa s51) m a.1 a.2) (ptN K G) (fun i a => a.2 = Int32.ofNat i ∧ Xh st0 a.1 K G M N f ∧ (∀ k, k < K → sI a.1 136 k = Int32.ofNat (gT s k)) ∧ cvA K G M N f s i = some true) (fun m i a hi hA k9 => ?_) (fun m a hA => ?_) gFU 0 (st, 0) (by omega) (gFU_big (by omega)) ⟨rfl, hX, hv, rfl⟩
  · obtain ⟨s1, x⟩ := a
    obtain ⟨e, X, w, hc⟩ := hA
    dsimp only at e X w
    subst e
    show w_X0_covers_l2 Φ Φa _ _ (m + 1) s1 _
    have oki := ok_all q1 q2 hV hi hok
    rw [w_X0_covers_l2, X.2.1.2.2.2.2.2.2.2.2.2.2.2.2.1, le_of (by omega) (by omega), X.2.1.2.2.2.2.2.2.2.2.1]
    refine ⟨fun h => absurd h (by omega), fun _ => ?_⟩
    refine x_wmix hN X hi hV oki w (fun v hm pv s17 X17 w17 p17 => ?_) (fun hm s' F' => h2 ?_ s' F')
    · rw [vp_of (by omega), nn_of (by omega)]
      refine ⟨by omega, ?_⟩
      have hX9 := X17.2.2.2 i hi
      refine s_X2_less (by rw [p17]; exact pv) (by rw [hX9.1]; exact hX9.2) (fun d hd => ?_) (fun hd => h2 ?_ s17 X17.1)
      · rw [p17, hX9.1] at hd
        have ecv : cvF K G M N f s i = some (decide (0 ≤ d.1.toInt)) := by unfold cvF; rw [hm, bd_s, hd]; rfl
        have F9 : Fr (fun a j => a = 143 ∧ j < 2) 0 0 s17 (putP s17 143 d) := Fr_P Fr_rf (fun j hj => ⟨rfl, hj⟩)
        have p9 : pR (putP s17 143 d) 143 = d := pR_pP
        have w9 : ∀ k, k < K → sI (putP s17 143 d) 136 k = Int32.ofNat (gT s k) := fun k hk => by rw [gI_pP]; exact w17 k hk
        generalize putP s17 143 d = s9 at F9 p9 w9
        have X9 := Xh_st hN X17 F9 (fun a j h => by unfold wHx; omega)
        refine isBl (fun hb => ⟨fun h => absurd h (by decide), fun _ => ?_⟩) (fun hb => ⟨fun _ => ?_, fun h => absurd rfl h⟩)
        · rw [p9] at hb
          rw [decide_eq_false (by omega)] at ecv
          unfold w_X0_covers_b64
          exact h1 false (by rw [cvA_end hi hc (by rw [ecv]; exact fun h => by cases h), ecv]) s9 X9 w9
        · rw [p9] at hb
          rw [decide_eq_true (by omega)] at ecv
          have hk := k9 (s9, Int32.ofNat i + 1)
          dsimp only at hk
          exact hk ⟨succ_of i, X9, w9, by rw [cvA, hc]; exact ecv⟩
      · rw [p17, hX9.1] at hd
        have ecv : cvF K G M N f s i = none := by unfold cvF; rw [hm, bd_s, hd]; rfl
        rw [cvA_end hi hc (by rw [ecv]; exact fun h => by cases h), ecv]
    · have ecv : cvF K G M N f s i = none := by unfold cvF; rw [hm]; rfl
      rw [cvA_end hi hc (by rw [ecv]; exact fun h => by cases h), ecv]
  · obtain ⟨s1, x⟩ := a
    obtain ⟨e, X, w, hc⟩ := hA
    dsimp only at e X w
    subst e
    show w_X0_covers_l2 Φ Φa _ _ (m + 1) s1 _
    rw [w_X0_covers_l2, X.2.1.2.2.2.2.2.2.2.2.2.2.2.2.1]
    refine ⟨fun _ => ?_, fun h => absurd (Int32.le_refl _) h⟩
    unfold w_X0_covers_b72
    exact h1 true hc s1 X w
/-- three points in one line -/
theorem x_flat {st0 st : St} {K G M N : Nat} {f : Nat → Nat → Nat → Int32} {s : Nat × Nat × Nat} {Φ : Int32 → Prop} (hX : Xh st0 st K G M N f) (hV : Val (ptN K G) K s) (hv : ∀ k, k < K → sI st 136 k = Int32.ofNat (gT s k)) (h : ∀ c, (c = true → ∀ p, hwB K G p s = false) → Φ (ib c)) : w_X0_isFlat st Φ := by
  obtain ⟨n1, n3, g1, g2⟩ := gT_lt hV
  obtain ⟨q1, q2, q3, q4, q5, q6, q7, q8, q9, q10, q11, q12, q13, q14, q15, q16⟩ := hX.2.1
  have hp15 := pt15 q1 q2
  unfold w_X0_isFlat
  have e3 : (Int32.ofNat K = 3) = (K = 3) := ofE (n := 3) (by omega) (by omega)
  rw [q9, ne_eq, e3]
  refine ⟨fun _ => h false (fun h => by cases h), fun k3 => ?_⟩
  have s0 := g1 0 (by omega)
  have s1 := g1 1 (by omega)
  have s2 := g1 2 (by omega)
  have pc : ∀ q, q < ptN K G → ∀ k, k < 3 → sI st (2 + (16 + q)) k = Int32.ofInt (cI K G q k) := fun q hq k hk => q14 q k hq hk
  have pb : ∀ q, q < ptN K G → ∀ k, k < 3 → 0 ≤ cI K G q k ∧ cI K G q k ≤ 4 := fun q hq k hk => cI_b q1 q2 hq hk
  rw [hv 0 (by omega), hv 1 (by omega), hv 2 (by omega), vp_of (by omega), vp_of (by omega), vp_of (by omega), nn_of (by omega), nn_of (by omega), nn_of (by omega)]
  refine ⟨by omega, by omega, by omega, x_cross (pc _ s0) (pc _ s1) (pc _ s2) ?_⟩
  have cb := cr_b (pb _ s0) (pb _ s1) (pb _ s2)
  have e0 : (Int32.ofInt (crF (cI K G (gT s 0)) (cI K G (gT s 1)) (cI K G (gT s 2))) = 0) = (crF (cI K G (gT s 0)) (cI K G (gT s 1)) (cI K G (gT s 2)) = 0) := oi_eq (b := 0) (by omega) (by omega)
  rw [ne_eq, e0]
  refine ⟨fun _ => h false (fun h => by cases h), fun he => h true (fun _ p => ?_)⟩
  cases hc : hwB K G p s with
  | false => rfl
  | true =>
    have := (hwB_t.mp hc).1
    unfold wOk wDn at this
    rw [if_neg (by omega), if_neg (by omega), if_neg (by omega), if_neg (by omega)] at this
    exact absurd he this
def vxO (K G k : Nat) : Bool := (List.range (ptN K G)).any fun q => (List.range (ptN K G)).all fun p => (ptV K G p k <= G) && ((ptV K G p k == G) == (p == q))
theorem vxO_t : (∀ G, G < 5 → 1 ≤ G → ∀ k, k < 2 → vxO 2 G k = true) ∧ ∀ G, G < 5 → 1 ≤ G → ∀ k, k < 3 → vxO 3 G k = true := by decide +kernel
theorem vx_ex {K G k : Nat} (hK : K = 2 ∨ K = 3) (hG : 1 ≤ G ∧ G ≤ 4) (hk : k < K) : ∃ q, q < ptN K G ∧ ∀ p, p < ptN K G → ptV K G p k ≤ G ∧ (ptV K G p k = G ↔ p = q) := by
  have h1 : vxO K G k = true := by
    rcases hK with rfl | rfl
    · exact vxO_t.1 G (by omega) hG.1 k hk
    · exact vxO_t.2 G (by omega) hG.1 k hk
  unfold vxO at h1
  obtain ⟨q, h2, h3⟩ := List.any_eq_true.mp h1
  refine ⟨q, List.mem_range.mp h2, fun p hp => ?_⟩
  have h4 := List.all_eq_true.mp h3 p (List.mem_range.mpr hp)
  obtain ⟨h5, h6⟩ := Bool.and_eq_true_iff.mp h4
  refine ⟨of_decide_eq_true h5, ?_⟩
  have h7 := eq_of_beq h6
  constructor
  · intro e
    rw [e, beq_self_eq_true] at h7
    exact eq_of_beq h7.symm
  · intro e
    rw [e, beq_self_eq_true] at h7
    subst e
    exact eq_of_beq h7
theorem x_vertex {st : St} {K G M N k q : Nat} {Φ : Int32 → Prop} (hs : Hs st K G M N) (hk : k < K) (hq : q < ptN K G) (hv : ∀ p, p < ptN K G → ptV K G p k ≤ G ∧ (ptV K G p k = G ↔ p = q)) (h : Φ (Int32.ofNat q)) : w_X1_vertex 2 st (Int32.ofNat k) Φ := by
  obtain ⟨q1, q2, q3, q4, q5, q6, q7, q8, q9, q10, q11, q12, q13, q14, q15, q16⟩ := hs
  have hp15 := pt15 q1 q2
  unfold w_X1_vertex
  refine loop_up (α := Int32) (L := fun m x => w_X1_vertex_l2 2 Φ (fun (_ : St) (x2 : Int32) => w_X1_vertex_b23 2 Φ st x2) m st (Int32.ofNat k) x) q (fun i x => x = Int32.ofNat i) (fun m i x hi hA k9 => ?_) (fun m x hA => ?_) gFU 0 0 (by omega) (gFU_big (by omega)) rfl
  · subst hA
    obtain ⟨v1, v2⟩ := hv i (by omega)
    rw [w_X1_vertex_l2, vp_of (by omega), vp_of (by omega), nn_of (by omega), nn_of (by omega), q10, q14 i k (by omega) (by omega), le_of (by omega) (by omega)]
    refine ⟨by omega, by omega, fun h => absurd (v2.mp (by omega)) (by omega), fun _ => k9 _ (succ_of i)⟩
  · subst hA
    obtain ⟨v1, v2⟩ := hv q hq
    have := v2.mpr rfl
    rw [w_X1_vertex_l2, vp_of (by omega), vp_of (by omega), nn_of (by omega), nn_of (by omega), q10, q14 q k (by omega) (by omega), le_of (by omega) (by omega)]
    refine ⟨by omega, by omega, fun _ => ?_, fun h => absurd (by omega) h⟩
    unfold w_X1_vertex_b23
    exact h
theorem m_corner {st : St} {K G M N k q : Nat} {Φ : Int32 → Prop} (hs : Hs st K G M N) (hk : k < K) (hq : q < ptN K G) (hv : ∀ p, p < ptN K G → ptV K G p k ≤ G ∧ (ptV K G p k = G ↔ p = q)) (h : Φ (Int32.ofNat q)) : w_X4_corner st (Int32.ofNat k) Φ := by
  obtain ⟨q1, q2, q3, q4, q5, q6, q7, q8, q9, q10, q11, q12, q13, q14, q15, q16⟩ := hs
  have hp15 := pt15 q1 q2
  unfold w_X4_corner
  refine loop_up (α := Int32 × Int32) (L := fun m a => w_X4_corner_l4 Φ (fun (_ : St) (x2 : Int32) => w_X4_corner_b39 Φ st x2) m st (Int32.ofNat k) a.1 a.2) (ptN K G) (fun i a => a.2 = Int32.ofNat i ∧ (q < i → a.1 = Int32.ofNat q)) (fun m i a hi hA k9 => ?_) (fun m a hA => ?_) gFU 0 (0, 0) (by omega) (gFU_big (by omega)) ⟨rfl, fun h => absurd h (by omega)⟩
  · obtain ⟨x2, x3⟩ := a
    obtain ⟨e, hA⟩ := hA
    dsimp only at e hA
    subst e
    show w_X4_corner_l4 Φ _ (m + 1) st _ x2 _
    obtain ⟨v1, v2⟩ := hv i hi
    rw [w_X4_corner_l4, pe_X4_points q5 q6 q1 q2, le_of (by omega) (by omega)]
    refine ⟨fun h => absurd h (by omega), fun _ => s_X4_gives q1 q2 q5 q6 hi hk ?_⟩
    rw [q6, ne_eq, ofE (by omega) (by omega), v2]
    unfold w_X4_corner_b32
    refine ⟨fun hne => ?_, fun he => ?_⟩
    · have hk := k9 (x2, Int32.ofNat i + 1)
      dsimp only at hk
      exact hk ⟨succ_of i, fun h => hA (by omega)⟩
    · have hk := k9 (Int32.ofNat i, Int32.ofNat i + 1)
      dsimp only at hk
      exact hk ⟨succ_of i, fun _ => by rw [he]⟩
  · obtain ⟨x2, x3⟩ := a
    obtain ⟨e, hA⟩ := hA
    dsimp only at e hA
    subst e
    show w_X4_corner_l4 Φ _ (m + 1) st _ x2 _
    rw [w_X4_corner_l4, pe_X4_points q5 q6 q1 q2]
    refine ⟨fun _ => ?_, fun h => absurd (Int32.le_refl _) h⟩
    unfold w_X4_corner_b39
    rw [hA hq]
    exact h
/-- the component's search -/
theorem x_pl {st0 : St} {K G M N p k : Nat} {f : Nat → Nat → Nat → Int32} {Φ : St → Nat → Prop} {Φw : St → Nat → Prop} {Φa : St → Prop} {E57 E75 : St → Int32 → Int32 → Prop} {r : Option (Option (Nat × Nat × Nat))} (hN : 201 ≤ sN st0) (hp : p < ptN K G) (h1 : ∀ s, r = some (some s) → Val (ptN K G) K s → hwB K G p s = true → ∀ s', Xh st0 s' K G M N f → (∀ i, i < K → sI s' 136 i = Int32.ofNat (gT s i)) → E57 s' (Int32.ofNat k) 1) (h0 : r = some none → ∀ s', Xh st0 s' K G M N f → E75 s' (Int32.ofNat k) 0) (h2 : r = none → ∀ s', Fr wHx 0 0 st0 s' → jkA s' Φa) : ∀ (l : Nat) (s : Nat × Nat × Nat) (m : Nat) (st : St), Val (ptN K G) K s → Rp (ptN K G) K (ptT K G M N p f) l (some s) r → l < m → Xh st0 st K G M N f → (∀ i, i < K → sI st 136 i = Int32.ofNat (gT s i)) → w_X0_priceOf_l16 Φ Φw Φa E57 E75 m st (Int32.ofNat p) (Int32.ofNat k) 1
  | 0, _, _, _, _, hR, _, _, _ => by obtain ⟨_, e, _⟩ := Rp_inv hR; cases e
  | l + 1, s, m, st, hV, hR, hm, hX, hv => by
    obtain ⟨m, rfl⟩ : ∃ g, m = g + 1 := ⟨m - 1, by omega⟩
    obtain ⟨k', e', hR'⟩ := Rp_inv hR
    have ek : k' = l := by omega
    subst ek
    have q1 := hX.2.1.1
    have hp15 := pt15 q1 hX.2.1.2.1
    have hK0 : ∀ s, Xh st0 s K G M N f → sI s 2 0 = Int32.ofNat K := fun s hx => hx.2.1.2.2.2.2.2.2.2.2.1
    -- the next set
    have nxt : ptT K G M N p f s = some false → ∀ s', Xh st0 s' K G M N f → (∀ i, i < K → sI s' 136 i = Int32.ofNat (gT s i)) → w_X0_nextPoints s' (sI s' 2 0) (fun (s28 : St) (r27 : Int32) => w_X0_priceOf_l16 Φ Φw Φa E57 E75 m s28 (Int32.ofNat p) (Int32.ofNat k) r27) := fun hT s' X' v' => by
      have hNs : 201 ≤ sN s' := Nat.le_trans hN X'.1.1
      have hR2 : Rp (ptN K G) K (ptT K G M N p f) k' (nxS (ptN K G) K s) r := by
        rcases hR' with ⟨a, -⟩ | ⟨a, -⟩ | ⟨-, a⟩
        · rw [hT] at a; cases a
        · rw [hT] at a; cases a
        · exact a
      rw [hK0 s' X']
      refine x_next hNs hp15.1 hV X'.2.1.2.2.2.2.2.2.2.2.2.2.2.2.1 v' (fun hn => ?_) (fun t ht s2 F2 v2 => ?_)
      · rw [hn] at hR2
        obtain ⟨g, rfl⟩ : ∃ g, m = g + 1 := ⟨m - 1, by omega⟩
        rw [w_X0_priceOf_l16]
        exact ⟨fun _ => h0 (Rp_end hR2) s' X', fun h => absurd rfl h⟩
      · rw [ht] at hR2
        exact x_pl hN hp h1 h0 h2 k' t m s2 (val_nx hV ht) hR2 (by omega) (Xh_st hN X' F2 (fun a j h => Or.inr (Or.inr (Or.inl h)))) v2
    rw [w_X0_priceOf_l16]
    refine ⟨fun h => absurd h (by decide), fun _ => ?_⟩
    unfold w_X0_priceOf_b35
    refine x_flat hX hV hv (fun c hc => ?_)
    rw [ib_nz, ib_z]
    refine ⟨fun ct => ?_, fun _ => ?_⟩
    · exact nxt (by unfold ptT; rw [if_neg (by rw [hc ct p]; decide)]) st hX hv
    · refine x_within hN hX hp hV hv (fun s' X' v' => ?_)
      rw [ib_nz, ib_z]
      refine ⟨fun hw => ?_, fun hw => nxt (by unfold ptT; rw [if_neg (by rw [hw]; decide)]) s' X' v'⟩
      have eT : ptT K G M N p f s = cvA K G M N f s (ptN K G) := by unfold ptT; rw [if_pos hw]
      refine x_covers hN X' hV (hwB_t.mp hw).1 v' (fun c hcv s2 X2 v2 => ?_) (fun hcv s2 F2 => ?_)
      · rw [ib_z]
        refine ⟨fun cf => ?_, fun ct => ?_⟩
        · exact nxt (by rw [eT, hcv, cf]) s2 X2 v2
        · have ct' : c = true := by cases c with
            | true => rfl
            | false => exact absurd rfl ct
          rcases hR' with ⟨a, -⟩ | ⟨-, a⟩ | ⟨a, -⟩
          · rw [eT, hcv] at a; cases a
          · exact h1 s a hV hw s2 X2 v2
          · rw [eT, hcv, ct'] at a; cases a
      · rcases hR' with ⟨-, a⟩ | ⟨a, -⟩ | ⟨a, -⟩
        · exact h2 a s2 F2
        · rw [eT, hcv] at a; cases a
        · rw [eT, hcv] at a; cases a
/-! the reference -/
/-- what holds of the reference's store while a price is sought -/
def Zp (st0 st : St) (K G M N : Nat) (f : Nat → Nat → Nat → Int32) : Prop := Xm st0 st K G M N f ∧ sI st 175 36 = Int32.ofNat K ∧ sI st 175 20 = 0 ∧ Mm st K G M N f
theorem m_wmix {st0 st : St} {K G M N q : Nat} {f : Nat → Nat → Nat → Int32} {s : Nat × Nat × Nat} {Ψ : St → Prop} (hN : 201 ≤ sN st0) (hZ : Zp st0 st K G M N f) (hq : q < ptN K G) (hV : Val (ptN K G) K s) (hok : wOk K G q K (gT s)) (hv : ∀ k, k < K → sI st 197 k = Int32.ofNat (gT s k)) (h1 : ∀ v, mixF K G M N q f K s = some v → 0 < v.2.toInt → ∀ s', Zp st0 s' K G M N f → (∀ k, k < K → sI s' 197 k = Int32.ofNat (gT s k)) → sL s' 175 18 = v.1 → sL s' 175 19 = v.2 → Ψ s') (h2 : mixF K G M N q f K s = none → ∀ s', Xm st0 s' K G M N f → sI s' 175 20 = 1 → Ψ s') : w_X4_weighs st (Int32.ofNat q) (fun s11 _ => w_X4_mixes s11 Ψ) := by
  obtain ⟨hX, h36, h20, hm⟩ := hZ
  obtain ⟨n1, n3, g1, g2⟩ := gT_lt hV
  have q1 := hX.2.1.1
  have q2 := hX.2.1.2.1
  have hNs : 201 ≤ sN st := Nat.le_trans hN hX.1.1
  refine m_weighs hX.2.1 hq ⟨n1, n3⟩ g1 g2 h36 hv (fun _ s3 F3 d3 w3 => ?_) (fun h => absurd hok h)
  have X3 := Xm_st hN hX F3 (fun a j h => Or.inr (Or.inl h))
  have hN3 : 201 ≤ sN s3 := Nat.le_trans hNs F3.1
  obtain ⟨hDp, w2⟩ := wB q1 q2 ⟨n1, n3⟩ hq g1 g2 hok
  have o3 : ∀ a j, a < 201 → ¬ ((a = 175 ∧ j = 38) ∨ (a = 198 ∧ j < 3)) → Same st s3 a j := fun a j g1 g2 => fr_at F3 (Or.inl (by omega)) g2
  have v3 : ∀ k, k < K → sI s3 197 k = Int32.ofNat (gT s k) := fun k hk => (o3 197 k (by omega) (by omega)).1.trans (hv k hk)
  have h36' := (o3 175 36 (by omega) (by omega)).1.trans h36
  have m3 : Mm s3 K G M N f := fun p hp => by
    have hp15 := pt15 q1 q2
    rw [(o3 196 p (by omega) (by omega)).1, (o3 194 p (by omega) (by omega)).2.1, (o3 195 p (by omega) (by omega)).2.1]; exact hm p hp
  have hpp : ∀ i, i < K → 0 < (wLo K G q K (gT s) i).2.toInt ∧ 0 < (uR K G M N (gT s i) f).2.toInt := fun i hi => ⟨(w2 i hi).2.1, by rw [← X3.2.2]; exact uR_pos X3.2.1 (g1 i hi)⟩
  refine m_mixes (S := gT s) (W := wLo K G q K (gT s)) (c := false) hN3 X3.2.1 ⟨n1, n3⟩ h36' (fun i hi => ⟨v3 i hi, g1 i hi⟩) ((o3 175 20 (by omega) (by omega)).1.trans h20) (fun _ => by rw [X3.2.2]; exact m3) (by rw [d3]; exact hDp) (fun i hi => by rw [w3 i hi, d3]; rfl) (fun s21 F21 c21 l21 m21 => ?_)
  rw [X3.2.2] at c21 l21 m21
  have em : mxO (wLo K G q K (gT s)) (fun i => uR K G M N (gT s i) f) K = mixF K G M N q f K s := rfl
  rw [em] at c21 l21 m21
  rw [Bool.false_or] at c21 m21
  have X21 := Xm_st hN X3 F21 (fun a j h => Or.inl h)
  cases hmx : mixF K G M N q f K s with
  | none =>
    rw [hmx] at c21
    exact h2 hmx s21 X21 c21
  | some v =>
    rw [hmx] at c21 m21
    have l9 := l21 rfl v hmx
    have o21 : ∀ a j, a < 201 → ¬ ((a = 175 ∧ j ≤ 30 ∧ 18 ≤ j) ∨ (188 ≤ a ∧ a ≤ 196)) → Same s3 s21 a j := fun a j g1 g2 => fr_at F21 (Or.inl (by omega)) (fun h => g2 (wU_c h))
    refine h1 v hmx (mxO_p K v hpp (em.trans hmx)) s21 ⟨X21, (o21 175 36 (by omega) (by omega)).1.trans h36', c21, m21 rfl⟩ (fun k hk => (o21 197 k (by omega) (by omega)).1.trans (v3 k hk)) ?_ ?_
    · rw [← l9]
    · rw [← l9]
/-- the reference: the mixture reaches every point -/
theorem m_holds {st0 st : St} {K G M N p : Nat} {f : Nat → Nat → Nat → Int32} {s : Nat × Nat × Nat} {Φ : St → Int32 → Prop} (hN : 201 ≤ sN st0) (hZ : Zp st0 st K G M N f) (hV : Val (ptN K G) K s) (hok : wOk K G p K (gT s)) (hv : ∀ k, k < K → sI st 197 k = Int32.ofNat (gT s k)) (h1 : ∀ c, cvA K G M N f s (ptN K G) = some c → ∀ s', Zp st0 s' K G M N f → (∀ k, k < K → sI s' 197 k = Int32.ofNat (gT s k)) → Φ s' (ib c)) (h2 : cvA K G M N f s (ptN K G) = none → ∀ s', Xm st0 s' K G M N f → sI s' 175 20 = 1 → Φ s' 0) : w_X4_holds st Φ := by
  have q1 := hZ.1.2.1.1
  have q2 := hZ.1.2.1.2.1
  have hp15 := pt15 q1 q2
  unfold w_X4_holds
  refine loop_up (α := St × Int32) (L := fun m a => w_X4_holds_l2 Φ (fun (s49 : St) => w_X4_holds_b38 Φ s49) (fun (s50 : St) => w_X4_holds_b76 Φ s50) (fun (s51 : St) => w_X4_holds_b84 Φ s51) m a.1 a.2) (ptN K G) (fun i a => a.2 = Int32.ofNat i ∧ Zp st0 a.1 K G M N f ∧ (∀ k, k < K → sI a.1 197 k = Int32.ofNat (gT s k)) ∧ cvA K G M N f s i = some true) (fun m i a hi hA k9 => ?_) (fun m a hA => ?_) gFU 0 (st, 0) (by omega) (gFU_big (by omega)) ⟨rfl, hZ, hv, rfl⟩
  · obtain ⟨s1, x⟩ := a
    obtain ⟨e, Z, w, hc⟩ := hA
    dsimp only at e Z w
    subst e
    show w_X4_holds_l2 Φ _ _ _ (m + 1) s1 _
    have oki := ok_all q1 q2 hV hi hok
    rw [w_X4_holds_l2, pe_X4_points Z.1.2.1.2.2.2.2.1 Z.1.2.1.2.2.2.2.2.1 q1 q2, le_of (by omega) (by omega)]
    refine ⟨fun h => absurd h (by omega), fun _ => ?_⟩
    refine m_wmix hN Z hi hV oki w (fun v hm pv s19 Z19 w19 e18 e19 => ?_) (fun hm s19 X19 c19 => ?_)
    · rintro _ rfl _ rfl
      rw [Z19.2.2.1, e18, e19]
      refine ⟨fun _ => ?_, fun h => absurd rfl h⟩
      obtain ⟨X19, h36, c19, m19⟩ := Z19
      have hN19 : 201 ≤ sN s19 := Nat.le_trans hN X19.1.1
      refine m_u (c := false) hN19 X19.2.1 hi c19 (fun _ => by rw [X19.2.2]; exact m19) (fun s32 F32 c32 v32 => ?_)
      obtain ⟨u32, m32⟩ := v32 rfl
      rw [X19.2.2] at u32 m32
      have y18 : sL s32 175 18 = (uR K G M N i f).1 := by rw [← u32]
      have y19 : sL s32 175 19 = (uR K G M N i f).2 := by rw [← u32]
      rw [y18, y19]
      have pu : 0 < (uR K G M N i f).2.toInt := by rw [← X19.2.2]; exact uR_pos X19.2.1 hi
      refine s_X4_less (c := false) (x := v) (y := uR K G M N i f) c32 (fun _ => pv) (fun _ => pu) (fun s40 ⟨F40, c40, l40⟩ => ?_)
      have X40 : Xm st0 s40 K G M N f := Xm_st hN (Xm_st hN X19 F32 (fun _ _ h => Or.inl h)) F40 (fun _ _ h => Or.inl (Or.inr (Or.inr (Or.inl h))))
      rw [Bool.false_or] at c40
      cases hl : lessR v (uR K G M N i f) with
      | none =>
        rw [hl] at c40
        have ecv : cvF K G M N f s i = none := by unfold cvF; rw [hm, bd_s, hl]; rfl
        have c40' : sI s40 175 20 = 1 := c40
        rw [c40']
        refine ⟨fun _ => ?_, fun h => absurd h (by decide)⟩
        unfold w_X4_holds_b76
        exact h2 (by rw [cvA_end hi hc (by rw [ecv]; exact fun h => by cases h), ecv]) s40 X40 c40'
      | some d =>
        rw [hl] at c40
        have c40' : sI s40 175 20 = 0 := c40
        have d40 := l40 rfl d hl
        have d1 : sL s40 175 18 = d.1 := by rw [← d40]
        have ecv : cvF K G M N f s i = some (decide (0 ≤ d.1.toInt)) := by unfold cvF; rw [hm, bd_s, hl]; rfl
        have FF : Fr wU 0 0 s19 s40 := Fr_tr (x := 0) (y := 0) F32 (Fr_mo F40 (fun _ _ h => Or.inr (Or.inr (Or.inl h))) (Nat.le_refl _) (Nat.le_refl _))
        have o40 : ∀ a j, a < 201 → ¬ ((a = 175 ∧ j ≤ 30 ∧ 18 ≤ j) ∨ (188 ≤ a ∧ a ≤ 196)) → Same s19 s40 a j := fun a j g1 g2 => fr_at FF (Or.inl (by omega)) (fun h => g2 (wU_c h))
        have m40 : Mm s40 K G M N f := fun q hq => by
          have old : ∀ a, 194 ≤ a → a ≤ 196 → Same s32 s40 a q := fun a h1 h2 => fr_at F40 (Or.inl (by have := F32.1; omega)) (by unfold wR; omega)
          rw [(old 196 (by omega) (by omega)).1, (old 194 (by omega) (by omega)).2.1, (old 195 (by omega) (by omega)).2.1]; exact m32 q hq
        have Z40 : Zp st0 s40 K G M N f := ⟨X40, (o40 175 36 (by omega) (by omega)).1.trans h36, c40', m40⟩
        have w40 : ∀ k, k < K → sI s40 197 k = Int32.ofNat (gT s k) := fun k hk => (o40 197 k (by omega) (by omega)).1.trans (w19 k hk)
        rw [c40', d1, ge064]
        refine ⟨fun h => absurd rfl h, fun _ => ⟨fun hb => ?_, fun hb => ?_⟩⟩
        · rw [decide_eq_true hb] at ecv
          have hk := k9 (s40, Int32.ofNat i + 1)
          dsimp only at hk
          exact hk ⟨succ_of i, Z40, w40, by rw [cvA, hc]; exact ecv⟩
        · rw [decide_eq_false hb] at ecv
          unfold w_X4_holds_b76
          exact h1 false (by rw [cvA_end hi hc (by rw [ecv]; exact fun h => by cases h), ecv]) s40 Z40 w40
    · have ecv : cvF K G M N f s i = none := by unfold cvF; rw [hm]; rfl
      rintro _ rfl _ rfl
      rw [c19]
      refine ⟨fun h => absurd h (by decide), fun _ => ?_⟩
      unfold w_X4_holds_b38
      exact h2 (by rw [cvA_end hi hc (by rw [ecv]; exact fun h => by cases h), ecv]) s19 X19 c19
  · obtain ⟨s1, x⟩ := a
    obtain ⟨e, Z, w, hc⟩ := hA
    dsimp only at e Z w
    subst e
    show w_X4_holds_l2 Φ _ _ _ (m + 1) s1 _
    rw [w_X4_holds_l2, pe_X4_points Z.1.2.1.2.2.2.2.1 Z.1.2.1.2.2.2.2.2.1 q1 q2]
    refine ⟨fun _ => ?_, fun h => absurd (Int32.le_refl _) h⟩
    unfold w_X4_holds_b84
    exact h1 true hc s1 Z w
/-- the reference tries a set for a price -/
theorem m_ptry {st0 st s23 : St} {K G M N p : Nat} {f : Nat → Nat → Nat → Int32} {s : Nat × Nat × Nat} {Φ : St → Int32 → Prop} {E108 E117 : St → Prop} {K39 : St → Int32 → Int32 → Int32 → Int32 → Int32 → Prop} {x2 x3 x4 x5 : Int32} (hN : 201 ≤ sN st0) (hZ : Zp st0 st K G M N f) (hp : p < ptN K G) (hV : Val (ptN K G) K s) (F23 : Fr (fun a j => a = 197 ∧ j < 3) 0 0 st s23) (hv : ∀ k, k < K → sI s23 197 k = Int32.ofNat (gT s k)) (hb : ptT K G M N p f s = none → ∀ s', Xm st0 s' K G M N f → sI s' 175 20 = 1 → E117 s') (hf : ptT K G M N p f s = some false → ∀ s', Zp st0 s' K G M N f → K39 s' (Int32.ofNat p) x2 x3 x4 (x5 + 1)) (ht : ptT K G M N p f s = some true → ∀ s', Zp st0 s' K G M N f → (∀ k, k < K → sI s' 197 k = Int32.ofNat (gT s k)) → E108 s') : w_X4_weighs s23 (Int32.ofNat p) (fun (s26 : St) (r25 : Int32) => ((r25 = 0) → w_X4_isPriced_b110 Φ E117 K39 s26 (Int32.ofNat p) x2 x3 x4 x5) ∧ ((¬ r25 = 0) → w_X4_areAbove s26 0 (fun (r35 : Int32) => ((r35 = 0) → w_X4_isPriced_b110 Φ E117 K39 s26 (Int32.ofNat p) x2 x3 x4 x5) ∧ ((¬ r35 = 0) → w_X4_holds s26 (fun (s45 : St) (r44 : Int32) => ((r44 = 0) → w_X4_isPriced_b110 Φ E117 K39 s45 (Int32.ofNat p) x2 x3 x4 x5) ∧ ((¬ r44 = 0) → E108 s45)))))) := by
  obtain ⟨hX, h36, h20, hm⟩ := hZ
  obtain ⟨n1, n3, g1, g2⟩ := gT_lt hV
  have q1 := hX.2.1.1
  have q2 := hX.2.1.2.1
  have hp15 := pt15 q1 q2
  have hNs : 201 ≤ sN st := Nat.le_trans hN hX.1.1
  have zst : ∀ {s1 s2 : St}, Zp st0 s1 K G M N f → Fr (fun a j => (a = 197 ∧ j < 3) ∨ wWm a j) 0 0 s1 s2 → Zp st0 s2 K G M N f := fun {s1 s2} ⟨X, a36, a20, am⟩ F => by
    have hn : 201 ≤ sN s1 := Nat.le_trans hN X.1.1
    have o : ∀ a j, a < 201 → ¬ (a = 197 ∨ (a = 175 ∧ j = 38) ∨ a = 198) → Same s1 s2 a j := fun a j g1 g2 => fr_at F (Or.inl (by omega)) (fun h => g2 (by unfold wWm at h; omega))
    refine ⟨Xm_st hN X F (fun a j h => by rcases h with h | h; exact Or.inr (Or.inr (Or.inr (Or.inl h))); exact Or.inr (Or.inl h)), (o 175 36 (by omega) (by omega)).1.trans a36, (o 175 20 (by omega) (by omega)).1.trans a20, fun q hq => ?_⟩
    rw [(o 196 q (by omega) (by omega)).1, (o 194 q (by omega) (by omega)).2.1, (o 195 q (by omega) (by omega)).2.1]; exact am q hq
  have Z23 := zst ⟨hX, h36, h20, hm⟩ (Fr_mo F23 (fun _ _ h => Or.inl h) (Nat.le_refl _) (Nat.le_refl _))
  have hN23 : 201 ≤ sN s23 := Nat.le_trans hNs F23.1
  have hwf : ¬ (wOk K G p K (gT s) ∧ ∀ i, i < K → 0 ≤ wUp K G p K (gT s) i) → hwB K G p s = false := fun h => by
    cases hc : hwB K G p s with
    | false => rfl
    | true => exact absurd (hwB_t.mp hc) h
  have eF : hwB K G p s = false → ptT K G M N p f s = some false := fun h => by unfold ptT; rw [if_neg (by rw [h]; decide)]
  have go : ptT K G M N p f s = some false → ∀ s', Zp st0 s' K G M N f → w_X4_isPriced_b110 Φ E117 K39 s' (Int32.ofNat p) x2 x3 x4 x5 := fun hT s' Z' => by
    unfold w_X4_isPriced_b110
    rw [Z'.2.2.1]
    exact ⟨fun _ => hf hT s' Z', fun h => absurd rfl h⟩
  refine m_weighs Z23.1.2.1 hp ⟨n1, n3⟩ g1 g2 Z23.2.1 hv (fun hok s26 F26 d26 w26 => ⟨fun h => absurd h (by decide), fun _ => ?_⟩) (fun hok s26 F26 => ⟨fun _ => go (eF (hwf (fun h => hok h.1))) s26 (zst Z23 (Fr_mo F26 (fun _ _ h => Or.inr h) (Nat.le_refl _) (Nat.le_refl _))), fun h => absurd rfl h⟩)
  have Z26 := zst Z23 (Fr_mo F26 (fun _ _ h => Or.inr h) (Nat.le_refl _) (Nat.le_refl _))
  have v26 : ∀ k, k < K → sI s26 197 k = Int32.ofNat (gT s k) := fun k hk => (fr_at F26 (Or.inl (by omega)) (by unfold wWm; omega)).1.trans (hv k hk)
  obtain ⟨hDp, hw2⟩ := wB q1 q2 ⟨n1, n3⟩ hp g1 g2 hok
  refine m_above (t := 0) (u := wUp K G p K (gT s)) n3 (by unfold fit; omega) Z26.2.1 (fun i hi => by rw [w26 i hi]; exact (hw2 i hi).1) ?_
  rw [ib_z]
  refine ⟨fun hc => go (eF (hwf (fun h => (of_decide_eq_false hc) h.2))) s26 Z26, fun hc => ?_⟩
  have hab : ∀ i, i < K → 0 ≤ wUp K G p K (gT s) i := by
    cases hd : decide (∀ i, i < K → 0 ≤ wUp K G p K (gT s) i) with
    | false => exact absurd hd hc
    | true => exact of_decide_eq_true hd
  have hw : hwB K G p s = true := hwB_t.mpr ⟨hok, hab⟩
  have eT : ptT K G M N p f s = cvA K G M N f s (ptN K G) := by unfold ptT; rw [if_pos hw]
  refine m_holds hN Z26 hV hok v26 (fun c hcv s' Z' v' => ?_) (fun hcv s' X' c' => ⟨fun _ => ?_, fun h => absurd rfl h⟩)
  · rw [ib_z]
    refine ⟨fun cf => go (by rw [eT, hcv, cf]) s' Z', fun ct => ht ?_ s' Z' v'⟩
    cases c with
    | true => rw [eT, hcv]
    | false => exact absurd rfl ct
  · unfold w_X4_isPriced_b110
    rw [c']
    exact ⟨fun h => absurd h (by decide), fun _ => hb (by rw [eT, hcv]) s' X' c'⟩
/-- the reference's search, two states -/
theorem m_p2 {st0 : St} {K G M N p : Nat} {f : Nat → Nat → Nat → Int32} {r : Option (Option (Nat × Nat × Nat))} {Φ : St → Int32 → Prop} {E108 E117 E137 : St → Prop} (hN : 201 ≤ sN st0) (hK : K = 2) (hP15 : ptN K G ≤ 15) (hp : p < ptN K G) (ht : ∀ s, r = some (some s) → Val (ptN K G) K s → hwB K G p s = true → ∀ s', Zp st0 s' K G M N f → (∀ k, k < K → sI s' 197 k = Int32.ofNat (gT s k)) → E108 s') (hb : r = none → ∀ s', Xm st0 s' K G M N f → sI s' 175 20 = 1 → E117 s') (hn : r = some none → ∀ s', Zp st0 s' K G M N f → E137 s') {st : St} (hZ : Zp st0 st K G M N f) {l0 : Nat} (hR : Rp (ptN K G) K (ptT K G M N p f) l0 (nr2 (ptN K G) 0 1) r) : w_X4_isPriced_l17 Φ E108 E117 E137 gFU st (Int32.ofNat p) (Int32.ofNat (ptN K G)) 0 := by
  have wT : ∀ s, ptT K G M N p f s = some true → hwB K G p s = true := fun s h => by
    unfold ptT at h
    cases hc : hwB K G p s with
    | true => rfl
    | false => rw [hc, if_neg (by decide)] at h; cases h
  have hK0 : ∀ s, Zp st0 s K G M N f → sI s 177 0 = Int32.ofNat K := fun s hx => hx.1.2.1.2.2.2.2.1
  generalize hPP : ptN K G = P at *
  refine loop_up (α := St × Int32) (L := fun m a => w_X4_isPriced_l17 Φ E108 E117 E137 m a.1 (Int32.ofNat p) (Int32.ofNat P) a.2) P (fun i a => a.2 = Int32.ofNat i ∧ Zp st0 a.1 K G M N f ∧ ∃ l, Rp P K (ptT K G M N p f) l (nr2 P i (i + 1)) r) (fun m i a hi hA k9 => ?_) (fun m a hA => ?_) gFU 0 (st, 0) (by omega) (gFU_big (by omega)) ⟨rfl, hZ, l0, hR⟩
  · obtain ⟨s, x⟩ := a
    obtain ⟨e, Z, R⟩ := hA
    dsimp only at e Z
    subst e
    show w_X4_isPriced_l17 Φ E108 E117 E137 (m + 1) s _ _ _
    rw [w_X4_isPriced_l17, le_of (by omega) (by omega)]
    refine ⟨fun h => absurd h (by omega), fun _ => ?_⟩
    rintro _ rfl
    rw [succ_of]
    refine loop_up (α := St × Int32) (L := fun m' a => w_X4_isPriced_l27 Φ (fun (s56 : St) => E108 s56) (fun (s57 : St) => E117 s57) (fun (s58 : St) (x1 : Int32) (x2 : Int32) (x3 : Int32) => w_X4_isPriced_b131 Φ (w_X4_isPriced_l17 Φ E108 E117 E137 m) s58 x1 x2 x3) m' a.1 (Int32.ofNat p) (Int32.ofNat P) (Int32.ofNat i) a.2) P (fun j a => a.2 = Int32.ofNat j ∧ i < j ∧ Zp st0 a.1 K G M N f ∧ ∃ l, Rp P K (ptT K G M N p f) l (nr2 P i j) r) (fun m' j a hj hB k8 => ?_) (fun m' a hB => ?_) gFU (i + 1) (s, Int32.ofNat (i + 1)) (by omega) (gFU_big (by omega)) ⟨rfl, by omega, Z, R⟩
    · obtain ⟨s2, y⟩ := a
      obtain ⟨e, hij, Z2, l2, R2⟩ := hB
      dsimp only at e Z2
      subst e
      show w_X4_isPriced_l27 Φ _ _ _ (m' + 1) s2 _ _ _ _
      rw [show nr2 P i j = some (i, j, 0) from if_pos hj] at R2
      obtain ⟨l3, -, R3⟩ := Rp_inv R2
      rw [w_X4_isPriced_l27, le_of (by omega) (by omega)]
      refine ⟨fun h => absurd h (by omega), fun _ => ?_⟩
      rintro _ rfl
      rw [succ_of]
      obtain ⟨fu, hfu⟩ : ∃ fu, gFU = fu + 1 + 1 := ⟨gFU - 2, by unfold gFU; omega⟩
      have e2K : (Int32.ofNat K = 2) = (K = 2) := ofE (n := 2) (by omega) (by omega)
      have a2 : Int32.ofNat j + 2 = Int32.ofNat (j + 2) := by rw [Int32.ofNat_add]; rfl
      have hV : Val P K (i, j, 0) := by rw [hK]; exact Or.inr (Or.inl ⟨rfl, hij, hj, rfl⟩)
      rw [hfu, w_X4_isPriced_l39, hK0 s2 Z2, ne_eq, e2K]
      refine ⟨fun h => absurd hK h, fun _ => ?_⟩
      unfold w_X4_isPriced_b59
      rw [a2, le_of (by omega) (by omega)]
      refine ⟨fun h => absurd h (by omega), fun _ => ?_⟩
      intro s19 e19 s21 e21 s23 e23
      refine m_ptry hN Z2 (by rw [hPP]; exact hp) (by rw [hPP]; exact hV) (by rw [e23, e21, e19]; exact Fr_I (Fr_I (Fr_I Fr_rf (Or.inl ⟨rfl, by omega⟩)) (Or.inl ⟨rfl, by omega⟩)) (Or.inl ⟨rfl, by omega⟩)) (fun u hu => ?_) (fun hT s' X' c' => ?_) (fun hT s' Z' => ?_) (fun hT s' Z' v' => ?_)
      · rcases (by omega : u = 0 ∨ u = 1) with rfl | rfl
        · rw [e23, gI_pI, if_neg (by omega), e21, gI_pI, if_neg (by omega), e19, gI_pI, if_pos ⟨rfl, rfl⟩]; rfl
        · rw [e23, gI_pI, if_neg (by omega), e21, gI_pI, if_pos ⟨rfl, rfl⟩]; rfl
      · rcases R3 with ⟨-, a⟩ | ⟨a, -⟩ | ⟨a, -⟩
        · exact hb a s' X' c'
        · rw [hT] at a; cases a
        · rw [hT] at a; cases a
      · have R4 : Rp P K (ptT K G M N p f) l3 (nr2 P i (j + 1)) r := by
          rcases R3 with ⟨a, -⟩ | ⟨a, -⟩ | ⟨-, a⟩
          · rw [hT] at a; cases a
          · rw [hT] at a; cases a
          · rw [show nxS P K (i, j, 0) = nr2 P i (j + 1) by unfold nxS; rw [if_neg (by omega), if_pos hK]] at a; exact a
        rw [succ_of, w_X4_isPriced_l39, hK0 s' Z', ne_eq, e2K]
        refine ⟨fun h => absurd hK h, fun _ => ?_⟩
        unfold w_X4_isPriced_b59
        rw [a2]
        refine ⟨fun _ => ?_, fun h => absurd (Int32.le_refl _) h⟩
        unfold w_X4_isPriced_b125
        have hk := k8 (s', Int32.ofNat j + 1)
        dsimp only at hk
        exact hk ⟨succ_of j, by omega, Z', l3, R4⟩
      · rcases R3 with ⟨a, -⟩ | ⟨-, a⟩ | ⟨a, -⟩
        · rw [hT] at a; cases a
        · exact ht _ a hV (wT _ hT) s' Z' v'
        · rw [hT] at a; cases a
    · obtain ⟨s2, y⟩ := a
      obtain ⟨e, hij, Z2, l2, R2⟩ := hB
      dsimp only at e Z2
      subst e
      show w_X4_isPriced_l27 Φ _ _ _ (m' + 1) s2 _ _ _ _
      rw [w_X4_isPriced_l27]
      refine ⟨fun _ => ?_, fun h => absurd (Int32.le_refl _) h⟩
      unfold w_X4_isPriced_b131
      rw [nr2_e hi] at R2
      have hk := k9 (s2, Int32.ofNat i + 1)
      dsimp only at hk
      exact hk ⟨succ_of i, Z2, l2, R2⟩
  · obtain ⟨s, x⟩ := a
    obtain ⟨e, Z, l, R⟩ := hA
    dsimp only at e Z
    subst e
    show w_X4_isPriced_l17 Φ E108 E117 E137 (m + 1) s _ _ _
    rw [show nr2 P P (P + 1) = none by unfold nr2; rw [if_neg (by omega), if_neg (by omega)]] at R
    rw [w_X4_isPriced_l17]
    exact ⟨fun _ => hn (Rp_end R) s Z, fun h => absurd (Int32.le_refl _) h⟩
/-- three states -/
theorem m_p3 {st0 : St} {K G M N p : Nat} {f : Nat → Nat → Nat → Int32} {r : Option (Option (Nat × Nat × Nat))} {Φ : St → Int32 → Prop} {E108 E117 E137 : St → Prop} (hN : 201 ≤ sN st0) (hK : K = 3) (hP15 : ptN K G ≤ 15) (hp : p < ptN K G) (ht : ∀ s, r = some (some s) → Val (ptN K G) K s → hwB K G p s = true → ∀ s', Zp st0 s' K G M N f → (∀ k, k < K → sI s' 197 k = Int32.ofNat (gT s k)) → E108 s') (hb : r = none → ∀ s', Xm st0 s' K G M N f → sI s' 175 20 = 1 → E117 s') (hn : r = some none → ∀ s', Zp st0 s' K G M N f → E137 s') {st : St} (hZ : Zp st0 st K G M N f) {l0 : Nat} (hR : Rp (ptN K G) K (ptT K G M N p f) l0 (nr3 (ptN K G) 0 1 2) r) : w_X4_isPriced_l17 Φ E108 E117 E137 gFU st (Int32.ofNat p) (Int32.ofNat (ptN K G)) 0 := by
  have wT : ∀ s, ptT K G M N p f s = some true → hwB K G p s = true := fun s h => by
    unfold ptT at h
    cases hc : hwB K G p s with
    | true => rfl
    | false => rw [hc, if_neg (by decide)] at h; cases h
  have hK0 : ∀ s, Zp st0 s K G M N f → sI s 177 0 = Int32.ofNat K := fun s hx => hx.1.2.1.2.2.2.2.1
  have e2K : (Int32.ofNat K = 2) = (K = 2) := ofE (n := 2) (by omega) (by omega)
  generalize hPP : ptN K G = P at *
  refine loop_up (α := St × Int32) (L := fun m a => w_X4_isPriced_l17 Φ E108 E117 E137 m a.1 (Int32.ofNat p) (Int32.ofNat P) a.2) P (fun i a => a.2 = Int32.ofNat i ∧ Zp st0 a.1 K G M N f ∧ ∃ l, Rp P K (ptT K G M N p f) l (nr3 P i (i + 1) (i + 2)) r) (fun m i a hi hA k9 => ?_) (fun m a hA => ?_) gFU 0 (st, 0) (by omega) (gFU_big (by omega)) ⟨rfl, hZ, l0, hR⟩
  · obtain ⟨s, x⟩ := a
    obtain ⟨e, Z, R⟩ := hA
    dsimp only at e Z
    subst e
    show w_X4_isPriced_l17 Φ E108 E117 E137 (m + 1) s _ _ _
    rw [w_X4_isPriced_l17, le_of (by omega) (by omega)]
    refine ⟨fun h => absurd h (by omega), fun _ => ?_⟩
    rintro _ rfl
    rw [succ_of]
    refine loop_up (α := St × Int32) (L := fun m' a => w_X4_isPriced_l27 Φ (fun (s56 : St) => E108 s56) (fun (s57 : St) => E117 s57) (fun (s58 : St) (x1 : Int32) (x2 : Int32) (x3 : Int32) => w_X4_isPriced_b131 Φ (w_X4_isPriced_l17 Φ E108 E117 E137 m) s58 x1 x2 x3) m' a.1 (Int32.ofNat p) (Int32.ofNat P) (Int32.ofNat i) a.2) P (fun j a => a.2 = Int32.ofNat j ∧ i < j ∧ Zp st0 a.1 K G M N f ∧ ∃ l, Rp P K (ptT K G M N p f) l (nr3 P i j (j + 1)) r) (fun m' j a hj hB k8 => ?_) (fun m' a hB => ?_) gFU (i + 1) (s, Int32.ofNat (i + 1)) (by omega) (gFU_big (by omega)) ⟨rfl, by omega, Z, R⟩
    · obtain ⟨s2, y⟩ := a
      obtain ⟨e, hij, Z2, R2⟩ := hB
      dsimp only at e Z2
      subst e
      show w_X4_isPriced_l27 Φ _ _ _ (m' + 1) s2 _ _ _ _
      rw [w_X4_isPriced_l27, le_of (by omega) (by omega)]
      refine ⟨fun h => absurd h (by omega), fun _ => ?_⟩
      rintro _ rfl
      rw [succ_of]
      refine loop_up (α := St × Int32) (L := fun m'' a => w_X4_isPriced_l39 Φ (fun (s53 : St) => (fun (s56 : St) => E108 s56) s53) (fun (s54 : St) => (fun (s57 : St) => E117 s57) s54) (fun (s55 : St) (x1 : Int32) (x2 : Int32) (x3 : Int32) (x4 : Int32) => w_X4_isPriced_b125 Φ (w_X4_isPriced_l27 Φ (fun (s56 : St) => E108 s56) (fun (s57 : St) => E117 s57) (fun (s58 : St) (x1 : Int32) (x2 : Int32) (x3 : Int32) => w_X4_isPriced_b131 Φ (w_X4_isPriced_l17 Φ E108 E117 E137 m) s58 x1 x2 x3) m') s55 x1 x2 x3 x4) m'' a.1 (Int32.ofNat p) (Int32.ofNat P) (Int32.ofNat i) (Int32.ofNat j) a.2) P (fun k a => a.2 = Int32.ofNat k ∧ j < k ∧ Zp st0 a.1 K G M N f ∧ ∃ l, Rp P K (ptT K G M N p f) l (nr3 P i j k) r) (fun m'' k a hk hC k7 => ?_) (fun m'' a hC => ?_) gFU (j + 1) (s2, Int32.ofNat (j + 1)) (by omega) (gFU_big (by omega)) ⟨rfl, by omega, Z2, R2⟩
      · obtain ⟨s3, z⟩ := a
        obtain ⟨e, hjk, Z3, l2, R3⟩ := hC
        dsimp only at e Z3
        subst e
        show w_X4_isPriced_l39 Φ _ _ _ (m'' + 1) s3 _ _ _ _ _
        rw [show nr3 P i j k = some (i, j, k) from if_pos hk] at R3
        obtain ⟨l3, -, R3⟩ := Rp_inv R3
        have hV : Val P K (i, j, k) := by rw [hK]; exact Or.inr (Or.inr ⟨rfl, hij, hjk, hk⟩)
        rw [w_X4_isPriced_l39, hK0 s3 Z3, ne_eq, e2K]
        refine ⟨fun _ => ?_, fun h => absurd h (by omega)⟩
        unfold w_X4_isPriced_b59
        rw [le_of (by omega) (by omega)]
        refine ⟨fun h => absurd h (by omega), fun _ => ?_⟩
        intro s19 e19 s21 e21 s23 e23
        refine m_ptry hN Z3 (by rw [hPP]; exact hp) (by rw [hPP]; exact hV) (by rw [e23, e21, e19]; exact Fr_I (Fr_I (Fr_I Fr_rf (Or.inl ⟨rfl, by omega⟩)) (Or.inl ⟨rfl, by omega⟩)) (Or.inl ⟨rfl, by omega⟩)) (fun u hu => ?_) (fun hT s' X' c' => ?_) (fun hT s' Z' => ?_) (fun hT s' Z' v' => ?_)
        · rcases (by omega : u = 0 ∨ u = 1 ∨ u = 2) with rfl | rfl | rfl
          · rw [e23, gI_pI, if_neg (by omega), e21, gI_pI, if_neg (by omega), e19, gI_pI, if_pos ⟨rfl, rfl⟩]; rfl
          · rw [e23, gI_pI, if_neg (by omega), e21, gI_pI, if_pos ⟨rfl, rfl⟩]; rfl
          · rw [e23, gI_pI, if_pos ⟨rfl, rfl⟩]; rfl
        · rcases R3 with ⟨-, a⟩ | ⟨a, -⟩ | ⟨a, -⟩
          · exact hb a s' X' c'
          · rw [hT] at a; cases a
          · rw [hT] at a; cases a
        · have R4 : Rp P K (ptT K G M N p f) l3 (nr3 P i j (k + 1)) r := by
            rcases R3 with ⟨a, -⟩ | ⟨a, -⟩ | ⟨-, a⟩
            · rw [hT] at a; cases a
            · rw [hT] at a; cases a
            · rw [show nxS P K (i, j, k) = nr3 P i j (k + 1) by unfold nxS; rw [if_neg (by omega), if_neg (by omega)]] at a; exact a
          have hk7 := k7 (s', Int32.ofNat k + 1)
          dsimp only at hk7
          exact hk7 ⟨succ_of k, by omega, Z', l3, R4⟩
        · rcases R3 with ⟨a, -⟩ | ⟨-, a⟩ | ⟨a, -⟩
          · rw [hT] at a; cases a
          · exact ht _ a hV (wT _ hT) s' Z' v'
          · rw [hT] at a; cases a
      · obtain ⟨s3, z⟩ := a
        obtain ⟨e, hjk, Z3, l2, R3⟩ := hC
        dsimp only at e Z3
        subst e
        show w_X4_isPriced_l39 Φ _ _ _ (m'' + 1) s3 _ _ _ _ _
        rw [w_X4_isPriced_l39, hK0 s3 Z3, ne_eq, e2K]
        refine ⟨fun _ => ?_, fun h => absurd h (by omega)⟩
        unfold w_X4_isPriced_b59
        refine ⟨fun _ => ?_, fun h => absurd (Int32.le_refl _) h⟩
        unfold w_X4_isPriced_b125
        rw [nr3_e hij hj] at R3
        have hk8 := k8 (s3, Int32.ofNat j + 1)
        dsimp only at hk8
        exact hk8 ⟨succ_of j, by omega, Z3, l2, R3⟩
    · obtain ⟨s2, y⟩ := a
      obtain ⟨e, hij, Z2, l2, R2⟩ := hB
      dsimp only at e Z2
      subst e
      show w_X4_isPriced_l27 Φ _ _ _ (m' + 1) s2 _ _ _ _
      rw [w_X4_isPriced_l27]
      refine ⟨fun _ => ?_, fun h => absurd (Int32.le_refl _) h⟩
      unfold w_X4_isPriced_b131
      rw [nr3_f hi] at R2
      have hk := k9 (s2, Int32.ofNat i + 1)
      dsimp only at hk
      exact hk ⟨succ_of i, Z2, l2, R2⟩
  · obtain ⟨s, x⟩ := a
    obtain ⟨e, Z, l, R⟩ := hA
    dsimp only at e Z
    subst e
    show w_X4_isPriced_l17 Φ E108 E117 E137 (m + 1) s _ _ _
    rw [show nr3 P P (P + 1) (P + 2) = none by unfold nr3; rw [if_neg (by omega), if_neg (by omega), if_neg (by omega)]] at R
    rw [w_X4_isPriced_l17]
    exact ⟨fun _ => hn (Rp_end R) s Z, fun h => absurd (Int32.le_refl _) h⟩
