/-! PLAIN LAW, 51: weights: the reference -/
set_option maxRecDepth 100000
theorem n6432 {n : Nat} (h : n < 2 ^ 31) : (Int32.ofNat n).toInt64 = Int64.ofInt ((n : Nat) : Int) := t6432 (z := (n : Int)) (by omega)
theorem oi64_eq {a b : Int} (ha : fit a) (hb : fit b) : (Int64.ofInt a = Int64.ofInt b) = (a = b) :=
  propext ⟨fun h => by have := congrArg Int64.toInt h; rw [t64i ha, t64i hb] at this; exact this, fun h => by rw [h]⟩
theorem m_gives {st : St} {K G p k : Nat} {Φ : Int32 → Prop} (hK : K = 2 ∨ K = 3) (hG : 1 ≤ G ∧ G ≤ 4) (h0 : sI st 177 0 = Int32.ofNat K) (h1 : sI st 177 1 = Int32.ofNat G) (hp : p < ptN K G) (hk : k < K) (h : ∀ v : Int32, v.toInt64 = Int64.ofInt (cI K G p k) → Φ v) : w_X4_gives st (Int32.ofNat p) (Int32.ofNat k) Φ := by
  have := pt4 hK hG hp (show k < 3 by omega)
  exact s_X4_gives hK hG h0 h1 hp hk (h _ (n6432 (by omega)))
theorem m_part {st : St} {K G q i k : Nat} {Φ : Int64 → Prop} (hK : K = 2 ∨ K = 3) (hG : 1 ≤ G ∧ G ≤ 4) (h0 : sI st 177 0 = Int32.ofNat K) (h1 : sI st 177 1 = Int32.ofNat G) (hi : i < 3) (hq : q < ptN K G) (hv : sI st 197 i = Int32.ofNat q) (hk : k < K) (h : Φ (Int64.ofInt (cI K G q k))) : w_X4_part st (Int32.ofNat i) (Int32.ofNat k) Φ := by
  unfold w_X4_part
  rw [vp_of (by omega), nn_of (by omega), hv]
  exact ⟨hi, m_gives hK hG h0 h1 hq hk (fun v hv => by rw [hv]; exact h)⟩
def wWm (a j : Nat) : Prop := (a = 175 ∧ j = 38) ∨ (a = 198 ∧ j < 3)
def upI (D x : Int) : Int := if 0 ≤ D then x else -x
theorem wNu0 {K G p n : Nat} {S : Nat → Nat} : wNu K G p n S 0 = wDn K G n S - w1n K G p n S - w2n K G p n S := by unfold wNu; rw [if_pos rfl]
theorem wNu1 {K G p n : Nat} {S : Nat → Nat} : wNu K G p n S 1 = w1n K G p n S := by unfold wNu; rw [if_neg (by decide), if_pos rfl]
theorem wNu2 {K G p n : Nat} {S : Nat → Nat} : wNu K G p n S 2 = w2n K G p n S := by unfold wNu; rw [if_neg (by decide), if_neg (by decide)]
theorem wUp_up {K G p n i : Nat} {S : Nat → Nat} : wUp K G p n S i = upI (wDn K G n S) (wNu K G p n S i) := rfl
theorem upI_sub {D a b : Int} : upI D (a - b) = upI D a - upI D b := by unfold upI; split <;> omega
theorem m_turns {st0 st : St} {D a b : Int} {Φ : St → Prop} (F : Fr wWm 0 0 st0 st) (hD : sL st 175 38 = Int64.ofInt D) (h1 : sL st 198 1 = Int64.ofInt a) (h2 : sL st 198 2 = Int64.ofInt b) (hf : fit D) (h : ∀ s, Fr wWm 0 0 st0 s → (∀ x j, sI s x j = sI st x j) → sL s 175 38 = Int64.ofInt (upI D D) → sL s 198 1 = Int64.ofInt (upI D a) → sL s 198 2 = Int64.ofInt (upI D b) → Φ s) : w_X4_turnsUp st Φ := by
  unfold w_X4_turnsUp
  rw [ge064, hD, t64i hf]
  unfold upI at h
  refine ⟨fun h0 => h st F (fun _ _ => rfl) (by rw [if_pos h0]; exact hD) (by rw [if_pos h0]; exact h1) (by rw [if_pos h0]; exact h2), fun h0 => ?_⟩
  rintro _ rfl _ rfl _ rfl
  refine h _ (Fr_L (Fr_L (Fr_L F (Or.inl (Or.inl ⟨rfl, rfl⟩))) (Or.inl (Or.inr ⟨rfl, by omega⟩))) (Or.inl (Or.inr ⟨rfl, by omega⟩))) (fun x j => by rw [gI_pL, gI_pL, gI_pL]) ?_ ?_ ?_
  · rw [if_neg h0, gL_pL, if_neg (by omega), gL_pL, if_neg (by omega), gL_pL, if_pos ⟨rfl, rfl⟩, Int64.ofInt_neg]
  · rw [if_neg h0, gL_pL, if_neg (by omega), gL_pL, if_pos ⟨rfl, rfl⟩, gL_pL, if_neg (by omega), h1, Int64.ofInt_neg]
  · rw [if_neg h0, gL_pL, if_pos ⟨rfl, rfl⟩, gL_pL, if_neg (by omega), gL_pL, if_neg (by omega), h2, Int64.ofInt_neg]
theorem lin_f {D w a b c : Int} (h : (a - b) * D = w * (c - b)) : (D - w) * b + w * c = D * a := by grind
theorem lin_b {D w a b c : Int} (h : (D - w) * b + w * c = D * a) : (a - b) * D = w * (c - b) := by grind
theorem lin_u {D w a b c : Int} : ((upI D D - upI D w) * b + upI D w * c = upI D D * a) ↔ ((a - b) * D = w * (c - b)) := by
  unfold upI
  by_cases h : 0 ≤ D
  · rw [if_pos h, if_pos h]; exact ⟨lin_b, lin_f⟩
  · rw [if_neg h, if_neg h]
    refine ⟨fun g => lin_b ?_, fun g => ?_⟩
    · grind
    · have := lin_f g; grind
theorem mC {x y : Int} (hx : -64 ≤ x ∧ x ≤ 64) (hy : -64 ≤ y ∧ y ≤ 64) : -4096 ≤ x * y ∧ x * y ≤ 4096 := by
  have h : (x * y).natAbs ≤ 64 * 64 := by rw [Int.natAbs_mul]; exact Nat.mul_le_mul (by omega) (by omega)
  omega
theorem lin_iff {K G p q r : Nat} (hK : K = 2 ∨ K = 3) (hG : 1 ≤ G ∧ G ≤ 4) (hp : p < ptN K G) (hq : q < ptN K G) (hr : r < ptN K G) : linF (cI K G p) (cI K G q) (cI K G r) ↔ ∀ k, k < K → (cI K G p k - cI K G q k) * (cI K G r (axF (cI K G q) (cI K G r)) - cI K G q (axF (cI K G q) (cI K G r))) = (cI K G p (axF (cI K G q) (cI K G r)) - cI K G q (axF (cI K G q) (cI K G r))) * (cI K G r k - cI K G q k) := by
  unfold linF
  refine ⟨fun h k hk => h k (by omega), fun h k hk => ?_⟩
  rcases hK with rfl | rfl
  · by_cases e : k = 2
    · subst e
      have z : ∀ p, p < ptN 2 G → cI 2 G p 2 = 0 := fun p hp => by have := (pt2 G (by omega) hG.1 p hp).2.2.1; unfold cI; omega
      rw [z p hp, z q hq, z r hr]; simp
    · exact h k (by omega)
  · exact h k hk
theorem ax_lt {K G q r : Nat} (hK : K = 2 ∨ K = 3) (hG : 1 ≤ G ∧ G ≤ 4) (hq : q < ptN K G) (hr : r < ptN K G) (h : q ≠ r) : axF (cI K G q) (cI K G r) < 2 ∧ (∀ k, k < axF (cI K G q) (cI K G r) → cI K G q k = cI K G r k) ∧ cI K G q (axF (cI K G q) (cI K G r)) ≠ cI K G r (axF (cI K G q) (cI K G r)) := by
  have := cI_ne hK hG hq hr h
  unfold axF
  by_cases e : cI K G q 0 = cI K G r 0
  · rw [if_neg (fun g => g e)]
    refine ⟨by omega, fun k hk => ?_, by rcases this with h | h; exact absurd e h; exact h⟩
    rw [show k = 0 by omega]; exact e
  · rw [if_pos e]
    exact ⟨by omega, fun k hk => absurd hk (by omega), e⟩
/-- the reference's check of two weights -/
theorem m_two_l {st : St} {K G p q r : Nat} {D w : Int} {Φ : St → Int32 → Prop} {E0 E1 : St → Prop} (hK : K = 2 ∨ K = 3) (hG : 1 ≤ G ∧ G ≤ 4) (h0 : sI st 177 0 = Int32.ofNat K) (h1 : sI st 177 1 = Int32.ofNat G) (hp : p < ptN K G) (hq : q < ptN K G) (hr : r < ptN K G) (hv0 : sI st 197 0 = Int32.ofNat q) (hv1 : sI st 197 1 = Int32.ofNat r) (bD : -8 ≤ D ∧ D ≤ 8) (bw : -8 ≤ w ∧ w ≤ 8) (hD : sL st 175 38 = Int64.ofInt (upI D D)) (hw1 : sL st 198 1 = Int64.ofInt (upI D w)) (hw0 : sL st 198 0 = Int64.ofInt (upI D D - upI D w)) (g1 : (∀ k, k < K → (cI K G p k - cI K G q k) * D = w * (cI K G r k - cI K G q k)) → E1 st) (g0 : (¬ ∀ k, k < K → (cI K G p k - cI K G q k) * D = w * (cI K G r k - cI K G q k)) → E0 st) : w_X4_weighsTwo_l113 Φ E0 E1 gFU st (Int32.ofNat p) 0 := by
  have bU : ∀ x : Int, -8 ≤ x ∧ x ≤ 8 → -8 ≤ upI D x ∧ upI D x ≤ 8 := fun x hx => by unfold upI; split <;> omega
  have u1 := bU D bD
  have u2 := bU w bw
  refine loop_up (α := Int32) (L := fun m x => w_X4_weighsTwo_l113 Φ E0 E1 m st (Int32.ofNat p) x) K (fun i x => x = Int32.ofNat i ∧ ∀ k, k < i → (cI K G p k - cI K G q k) * D = w * (cI K G r k - cI K G q k)) (fun m i x hi hA k9 => ?_) (fun m x hA => ?_) gFU 0 0 (by omega) (gFU_big (by omega)) ⟨rfl, fun k hk => absurd hk (by omega)⟩
  · obtain ⟨e, hA⟩ := hA
    subst e
    have a0 := cI_b hK hG hp (show i < 3 by omega)
    have b0 := cI_b hK hG hq (show i < 3 by omega)
    have c0 := cI_b hK hG hr (show i < 3 by omega)
    rw [w_X4_weighsTwo_l113, h0, le_of (by omega) (by omega)]
    refine ⟨fun h => absurd h (by omega), fun _ => ?_⟩
    refine m_part (i := 0) hK hG h0 h1 (by omega) hq hv0 hi (m_part (i := 1) hK hG h0 h1 (by omega) hr hv1 hi (m_gives hK hG h0 h1 hp hi (fun v hv => ?_)))
    have m1 := mC (x := upI D D - upI D w) (y := cI K G q i) (by omega) (by omega)
    have m2 := mC (x := upI D w) (y := cI K G r i) (by omega) (by omega)
    have m3 := mC (x := upI D D) (y := cI K G p i) (by omega) (by omega)
    rw [hv, hw0, hw1, hD, ← Int64.ofInt_mul, ← Int64.ofInt_mul, ← Int64.ofInt_mul, ← Int64.ofInt_add, oi64_eq (by unfold fit; omega) (by unfold fit; omega), lin_u]
    refine ⟨fun h => k9 _ ⟨succ_of i, fun k hk => ?_⟩, fun h => g0 (fun g => h (g i hi))⟩
    by_cases e : k = i
    · subst e; exact h
    · exact hA k (by omega)
  · obtain ⟨e, hA⟩ := hA
    subst e
    rw [w_X4_weighsTwo_l113, h0]
    exact ⟨fun _ => g1 hA, fun h => absurd (Int32.le_refl _) h⟩
theorem m_two {st : St} {K G M N p : Nat} {S : Nat → Nat} {Φ : St → Int32 → Prop} (hs : Hs st K G M N) (hp : p < ptN K G) (hS : ∀ i, i < 2 → S i < ptN K G) (hd : S 0 ≠ S 1) (hv : ∀ i, i < 2 → sI st 197 i = Int32.ofNat (S i)) (g1 : wOk K G p 2 S → ∀ s, Fr wWm 0 0 st s → sL s 175 38 = Int64.ofInt (upI (wDn K G 2 S) (wDn K G 2 S)) → (∀ i, i < 2 → sL s 198 i = Int64.ofInt (wUp K G p 2 S i)) → Φ s 1) (g0 : ¬ wOk K G p 2 S → ∀ s, Fr wWm 0 0 st s → Φ s 0) : w_X4_weighsTwo st (Int32.ofNat p) Φ := by
  obtain ⟨q1, q2, q3, q4, q5, q6, q7, q8, -⟩ := hs
  have s0 := hS 0 (by omega)
  have s1 := hS 1 (by omega)
  obtain ⟨z2, zl, zn⟩ := ax_lt q1 q2 s0 s1 hd
  have ed : wDn K G 2 S = cI K G (S 1) (axF (cI K G (S 0)) (cI K G (S 1))) - cI K G (S 0) (axF (cI K G (S 0)) (cI K G (S 1))) := by unfold wDn; rw [if_neg (by omega), if_pos rfl]
  have ea : w1n K G p 2 S = cI K G p (axF (cI K G (S 0)) (cI K G (S 1))) - cI K G (S 0) (axF (cI K G (S 0)) (cI K G (S 1))) := by unfold w1n; rw [if_neg (by omega), if_pos rfl]
  have eb : w2n K G p 2 S = 0 := by unfold w2n; rw [if_neg (by omega)]
  have eo : wOk K G p 2 S = linF (cI K G p) (cI K G (S 0)) (cI K G (S 1)) := by unfold wOk; rw [if_neg (by omega), if_pos rfl]
  have li := lin_iff q1 q2 hp s0 s1
  rw [eo, li] at g1 g0
  rw [← ed, ← ea] at g1 g0
  clear li
  generalize hz : axF (cI K G (S 0)) (cI K G (S 1)) = z at z2 zl zn ed ea
  have a0 := cI_b q1 q2 hp (show z < 3 by omega)
  have b0 := cI_b q1 q2 s0 (show z < 3 by omega)
  have c0 := cI_b q1 q2 s1 (show z < 3 by omega)
  have u0 : wUp K G p 2 S 0 = upI (wDn K G 2 S) (wDn K G 2 S) - upI (wDn K G 2 S) (w1n K G p 2 S) := by
    rw [wUp_up, wNu0, eb, Int.sub_zero, upI_sub]
  have u1 : wUp K G p 2 S 1 = upI (wDn K G 2 S) (w1n K G p 2 S) := by
    rw [wUp_up, wNu1]
  have bU : ∀ x : Int, -8 ≤ x ∧ x ≤ 8 → -8 ≤ upI (wDn K G 2 S) x ∧ upI (wDn K G 2 S) x ≤ 8 := fun x hx => by unfold upI; split <;> omega
  generalize wDn K G 2 S = D at *
  generalize w1n K G p 2 S = w at *
  have hKz : z < K := by omega
  unfold w_X4_weighsTwo
  refine loop_up (α := Int32) (L := fun m x => w_X4_weighsTwo_l2 Φ (fun (s19 : St) (x1 : Int32) (x2 : Int32) => w_X4_weighsTwo_b34 Φ s19 x1 x2) m st (Int32.ofNat p) x) z (fun i x => x = Int32.ofNat i) (fun m i x hi hA k9 => ?_) (fun m x hA => ?_) gFU 0 0 (by omega) (gFU_big (by omega)) rfl
  · subst hA
    rw [w_X4_weighsTwo_l2, q5, le_of (by omega) (by omega)]
    refine ⟨fun h => absurd h (by omega), fun _ => ?_⟩
    refine m_part (i := 1) q1 q2 q5 q6 (by omega) s1 (hv 1 (by omega)) (by omega) (m_part (i := 0) q1 q2 q5 q6 (by omega) s0 (hv 0 (by omega)) (by omega) ?_)
    rw [zl i hi]
    exact ⟨fun h => absurd rfl h, fun _ => k9 _ (succ_of i)⟩
  · subst hA
    rw [w_X4_weighsTwo_l2, q5, le_of (by omega) (by omega)]
    refine ⟨fun h => absurd h (by omega), fun _ => ?_⟩
    refine m_part (i := 1) q1 q2 q5 q6 (by omega) s1 (hv 1 (by omega)) hKz (m_part (i := 0) q1 q2 q5 q6 (by omega) s0 (hv 0 (by omega)) hKz ?_)
    have hne : (Int64.ofInt (cI K G (S 1) z) = Int64.ofInt (cI K G (S 0) z)) = False := by
      rw [oi64_eq (by unfold fit; omega) (by unfold fit; omega)]; exact eq_false (fun h => zn h.symm)
    refine ⟨fun _ => ?_, fun h => by rw [hne] at h; exact h.elim⟩
    unfold w_X4_weighsTwo_b34
    rw [q5, ne_eq, ofE (by omega) (by omega)]
    refine ⟨fun _ => ?_, fun h => absurd h (by omega)⟩
    refine m_part (i := 1) q1 q2 q5 q6 (by omega) s1 (hv 1 (by omega)) hKz (m_part (i := 0) q1 q2 q5 q6 (by omega) s0 (hv 0 (by omega)) hKz ?_)
    intro s37 h37
    have i37 : ∀ x j, sI s37 x j = sI st x j := fun x j => by rw [h37, gI_pL]
    have F37 : Fr wWm 0 0 st s37 := by rw [h37]; exact Fr_L Fr_rf (Or.inl (Or.inl ⟨rfl, rfl⟩))
    have d37 : sL s37 175 38 = Int64.ofInt D := by rw [h37, gL_pL, if_pos ⟨rfl, rfl⟩, ← Int64.ofInt_sub, ed]
    clear h37
    refine m_gives q1 q2 ((i37 _ _).trans q5) ((i37 _ _).trans q6) hp hKz (fun v hv9 => ?_)
    refine m_part (i := 0) q1 q2 ((i37 _ _).trans q5) ((i37 _ _).trans q6) (by omega) s0 ((i37 _ _).trans (hv 0 (by omega))) hKz ?_
    rw [hv9, ← Int64.ofInt_sub, ← ea]
    intro s55 h55 s57 h57
    have i57 : ∀ x j, sI s57 x j = sI st x j := fun x j => by rw [h57, gI_pL, h55, gI_pL, i37]
    have F57 : Fr wWm 0 0 st s57 := by rw [h57, h55]; exact Fr_L (Fr_L F37 (Or.inl (Or.inr ⟨rfl, by omega⟩))) (Or.inl (Or.inr ⟨rfl, by omega⟩))
    refine m_turns (D := D) (a := w) (b := 0) F57 (by rw [h57, gL_pL, if_neg (by omega), h55, gL_pL, if_neg (by omega)]; exact d37) (by rw [h57, gL_pL, if_neg (by omega), h55, gL_pL, if_pos ⟨rfl, rfl⟩]) (by rw [h57, gL_pL, if_pos ⟨rfl, rfl⟩]; rfl) (by unfold fit; omega) (fun s60 F60 i60 d60 a60 b60 => ?_)
    rw [d60, a60, ← Int64.ofInt_sub]
    intro s67 h67
    have i67 : ∀ x j, sI s67 x j = sI st x j := fun x j => by rw [h67, gI_pL, i60, i57]
    have F67 : Fr wWm 0 0 st s67 := by rw [h67]; exact Fr_L F60 (Or.inl (Or.inr ⟨rfl, by omega⟩))
    have d67 : sL s67 175 38 = Int64.ofInt (upI D D) := by rw [h67, gL_pL, if_neg (by omega)]; exact d60
    have a67 : sL s67 198 1 = Int64.ofInt (upI D w) := by rw [h67, gL_pL, if_neg (by omega)]; exact a60
    have b67 : sL s67 198 0 = Int64.ofInt (upI D D - upI D w) := by rw [h67, gL_pL, if_pos ⟨rfl, rfl⟩]
    refine m_two_l q1 q2 ((i67 _ _).trans q5) ((i67 _ _).trans q6) hp s0 s1 ((i67 _ _).trans (hv 0 (by omega))) ((i67 _ _).trans (hv 1 (by omega))) (by omega) (by omega) d67 a67 b67 (fun h => ?_) (fun h => ?_)
    · unfold w_X4_weighsTwo_b174
      refine g1 h s67 F67 d67 (fun i hi => ?_)
      rcases (by omega : i = 0 ∨ i = 1) with rfl | rfl
      · rw [u0]; exact b67
      · rw [u1]; exact a67
    · unfold w_X4_weighsTwo_b166
      exact g0 h s67 F67
theorem upn {D x : Int} (h : D ≠ 0) : 0 < upI D D := by unfold upI; split <;> omega
/-- the reference weighs -/
theorem m_weighs {st : St} {K G M N p n : Nat} {S : Nat → Nat} {Φ : St → Int32 → Prop} (hs : Hs st K G M N) (hp : p < ptN K G) (hn : 1 ≤ n ∧ n ≤ 3) (hS : ∀ i, i < n → S i < ptN K G) (hd : n = 2 → S 0 ≠ S 1) (h36 : sI st 175 36 = Int32.ofNat n) (hv : ∀ i, i < n → sI st 197 i = Int32.ofNat (S i)) (g1 : wOk K G p n S → ∀ s, Fr wWm 0 0 st s → sL s 175 38 = Int64.ofInt (upI (wDn K G n S) (wDn K G n S)) → (∀ i, i < n → sL s 198 i = Int64.ofInt (wUp K G p n S i)) → Φ s 1) (g0 : ¬ wOk K G p n S → ∀ s, Fr wWm 0 0 st s → Φ s 0) : w_X4_weighs st (Int32.ofNat p) Φ := by
  have hs' := hs
  obtain ⟨q1, q2, q3, q4, q5, q6, q7, q8, -⟩ := hs'
  have e1 : (Int32.ofNat n = 1) = (n = 1) := ofE (n := 1) (by omega) (by omega)
  have e2 : (Int32.ofNat n = 2) = (n = 2) := ofE (n := 2) (by omega) (by omega)
  unfold w_X4_weighs
  rw [h36, ne_eq, e1, ne_eq, e2]
  refine ⟨fun f1 => ⟨fun f2 => ?_, fun f2 => ?_⟩, fun f1 => ?_⟩
  · have f3 : n = 3 := by omega
    subst f3
    have s0 := hS 0 (by omega)
    have s1 := hS 1 (by omega)
    have s2 := hS 2 (by omega)
    have k0 : 0 < K := by omega
    have k1 : 1 < K := by omega
    have ed : wDn K G 3 S = crF (cI K G (S 0)) (cI K G (S 1)) (cI K G (S 2)) := by unfold wDn; rw [if_neg (by omega), if_neg (by omega)]
    have ea : w1n K G p 3 S = crF (cI K G (S 0)) (cI K G p) (cI K G (S 2)) := by unfold w1n; rw [if_neg (by omega), if_neg (by omega)]
    have eb : w2n K G p 3 S = crF (cI K G (S 0)) (cI K G (S 1)) (cI K G p) := by unfold w2n; rw [if_pos rfl]
    have eo : wOk K G p 3 S = (wDn K G 3 S ≠ 0) := by unfold wOk; rw [if_neg (by omega), if_neg (by omega)]
    have bD := (w_b q1 q2 (n := 3) (by omega) hp hS).1
    rw [eo] at g1 g0
    have P0 : ∀ {k : Nat} {Ψ : Int64 → Prop}, k < K → Ψ (Int64.ofInt (cI K G (S 0) k)) → w_X4_part st (Int32.ofNat 0) (Int32.ofNat k) Ψ := fun hk h => m_part q1 q2 q5 q6 (by omega) s0 (hv 0 (by omega)) hk h
    have P1 : ∀ {k : Nat} {Ψ : Int64 → Prop}, k < K → Ψ (Int64.ofInt (cI K G (S 1) k)) → w_X4_part st (Int32.ofNat 1) (Int32.ofNat k) Ψ := fun hk h => m_part q1 q2 q5 q6 (by omega) s1 (hv 1 (by omega)) hk h
    have P2 : ∀ {k : Nat} {Ψ : Int64 → Prop}, k < K → Ψ (Int64.ofInt (cI K G (S 2) k)) → w_X4_part st (Int32.ofNat 2) (Int32.ofNat k) Ψ := fun hk h => m_part q1 q2 q5 q6 (by omega) s2 (hv 2 (by omega)) hk h
    refine P1 (k := 0) k0 (P0 (k := 0) k0 ?_)
    rintro _ rfl
    refine P1 (k := 1) k1 (P0 (k := 1) k1 ?_)
    rintro _ rfl
    refine P2 (k := 0) k0 (P0 (k := 0) k0 ?_)
    rintro _ rfl
    refine P2 (k := 1) k1 (P0 (k := 1) k1 ?_)
    rintro _ rfl
    refine m_gives (k := 0) q1 q2 q5 q6 hp k0 (fun v0 hv0 => P0 (k := 0) k0 ?_)
    rintro _ rfl
    refine m_gives (k := 1) q1 q2 q5 q6 hp k1 (fun v1 hv1 => P0 (k := 1) k1 ?_)
    rintro _ rfl
    rw [hv0, hv1]
    simp only [← Int64.ofInt_sub, ← Int64.ofInt_mul]
    intro s111 h111 s113 h113 s115 h115
    have i115 : ∀ x j, sI s115 x j = sI st x j := fun x j => by rw [h115, gI_pL, h113, gI_pL, h111, gI_pL]
    have F115 : Fr wWm 0 0 st s115 := by rw [h115, h113, h111]; exact Fr_L (Fr_L (Fr_L Fr_rf (Or.inl (Or.inl ⟨rfl, rfl⟩))) (Or.inl (Or.inr ⟨rfl, by omega⟩))) (Or.inl (Or.inr ⟨rfl, by omega⟩))
    have d115 : sL s115 175 38 = Int64.ofInt (wDn K G 3 S) := by
      rw [h115, gL_pL, if_neg (by omega), h113, gL_pL, if_neg (by omega), h111, gL_pL, if_pos ⟨rfl, rfl⟩, ed]; rfl
    have a115 : sL s115 198 1 = Int64.ofInt (w1n K G p 3 S) := by
      rw [h115, gL_pL, if_neg (by omega), h113, gL_pL, if_pos ⟨rfl, rfl⟩, ea]; rfl
    have b115 : sL s115 198 2 = Int64.ofInt (w2n K G p 3 S) := by
      rw [h115, gL_pL, if_pos ⟨rfl, rfl⟩, eb]; rfl
    clear h111 h113 h115
    have ez : (Int64.ofInt (wDn K G 3 S) = 0) = (wDn K G 3 S = 0) := oi64_eq (b := 0) (by unfold fit; omega) (by unfold fit; omega)
    rw [d115, ne_eq, ez]
    refine ⟨fun hne => ?_, fun he => g0 (fun h => h he) s115 F115⟩
    refine m_turns F115 d115 a115 b115 (by unfold fit; omega) (fun s119 F119 i119 d119 a119 b119 => ?_)
    rw [d119, a119, b119]
    intro s126 h126
    refine g1 hne s126 (by rw [h126]; exact Fr_L F119 (Or.inl (Or.inr ⟨rfl, by omega⟩))) (by rw [h126, gL_pL, if_neg (by omega)]; exact d119) (fun i hi => ?_)
    rcases (by omega : i = 0 ∨ i = 1 ∨ i = 2) with rfl | rfl | rfl
    · rw [h126, gL_pL, if_pos ⟨rfl, rfl⟩, ← Int64.ofInt_sub, ← Int64.ofInt_sub]
      congr 1
      rw [wUp_up, wNu0, upI_sub, upI_sub]
    · rw [h126, gL_pL, if_neg (by omega), a119]
      congr 1
    · rw [h126, gL_pL, if_neg (by omega), b119]
      congr 1
  · subst f2
    exact m_two hs hp hS (hd rfl) hv (fun a s F d w => ⟨Or.inr rfl, g1 a s F d w⟩) (fun a s F => ⟨Or.inl rfl, g0 a s F⟩)
  · subst f1
    have s0 := hS 0 (by omega)
    have eo : wOk K G p 1 S = (S 0 = p) := by unfold wOk; rw [if_pos rfl]
    have ed : wDn K G 1 S = 1 := by unfold wDn; rw [if_pos rfl]
    have el : wUp K G p 1 S 0 = 1 := by unfold wUp wNu wDn w1n w2n; simp
    have hp15 := pt15 q1 q2
    rw [eo, ed] at g1
    rw [eo] at g0
    intro s137 h137 s139 h139
    have F : Fr wWm 0 0 st s139 := by rw [h139, h137]; exact Fr_L (Fr_L Fr_rf (Or.inl (Or.inl ⟨rfl, rfl⟩))) (Or.inl (Or.inr ⟨rfl, by omega⟩))
    have v0 : sI s139 197 0 = Int32.ofNat (S 0) := by rw [h139, gI_pL, h137, gI_pL]; exact hv 0 (by omega)
    rw [v0, ne_eq, ofE (by omega) (by omega)]
    refine ⟨fun hne => g0 hne _ F, fun he => g1 he _ F ?_ (fun i hi => ?_)⟩
    · rw [h139, gL_pL, if_neg (by omega), h137, gL_pL, if_pos ⟨rfl, rfl⟩]; rfl
    · rw [show i = 0 by omega, el, h139, gL_pL, if_pos ⟨rfl, rfl⟩]; rfl
