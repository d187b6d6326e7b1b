/-! PLAIN LAW, 50: weights of a point in a set -/
set_option maxRecDepth 100000
def cI (K G p k : Nat) : Int := ((ptV K G p k : Nat) : Int)
def crF (a b c : Nat → Int) : Int := (b 0 - a 0) * (c 1 - a 1) - (b 1 - a 1) * (c 0 - a 0)
def axF (b c : Nat → Int) : Nat := if b 0 ≠ c 0 then 0 else 1
/-- a fraction with its sign above the line -/
def lowS (N D : Int) : Int64 × Int64 := lowR (Int64.ofInt (if 0 ≤ D then N else -N)) (Int64.ofInt (if 0 ≤ D then D else -D))
theorem mB {x y : Int} (hx : -4 ≤ x ∧ x ≤ 4) (hy : -4 ≤ y ∧ y ≤ 4) : -16 ≤ x * y ∧ x * y ≤ 16 := by
  have h : (x * y).natAbs ≤ 4 * 4 := by rw [Int.natAbs_mul]; exact Nat.mul_le_mul (by omega) (by omega)
  omega
theorem cr_b {a b c : Nat → Int} (ha : ∀ k, k < 3 → 0 ≤ a k ∧ a k ≤ 4) (hb : ∀ k, k < 3 → 0 ≤ b k ∧ b k ≤ 4) (hc : ∀ k, k < 3 → 0 ≤ c k ∧ c k ≤ 4) : -32 ≤ crF a b c ∧ crF a b c ≤ 32 := by
  have a0 := ha 0 (by omega); have a1 := ha 1 (by omega)
  have b0 := hb 0 (by omega); have b1 := hb 1 (by omega)
  have c0 := hc 0 (by omega); have c1 := hc 1 (by omega)
  have h1 := mB (x := b 0 - a 0) (y := c 1 - a 1) (by omega) (by omega)
  have h2 := mB (x := b 1 - a 1) (y := c 0 - a 0) (by omega) (by omega)
  unfold crF; omega
theorem t32 {z : Int} (h : -2147483648 ≤ z ∧ z < 2147483648) : (Int32.ofInt z).toInt = z := by
  rw [Int32.toInt_ofInt]; exact Int.bmod_eq_of_le (by show -(2 ^ 32 / 2 : Int) ≤ z; omega) (by show z < (2 ^ 32 + 1) / 2; omega)
theorem t6432 {z : Int} (h : -2147483648 ≤ z ∧ z < 2147483648) : (Int32.ofInt z).toInt64 = Int64.ofInt z := by
  apply ofI_inj
  rw [Int32.toInt_toInt64, t32 h, ti_ofI, bm_fit (by unfold fit; omega)]
theorem oi_eq {a b : Int} (ha : -2147483648 ≤ a ∧ a < 2147483648) (hb : -2147483648 ≤ b ∧ b < 2147483648) : (Int32.ofInt a = Int32.ofInt b) = (a = b) :=
  propext ⟨fun h => by have := congrArg Int32.toInt h; rw [t32 ha, t32 hb] at this; exact this, fun h => by rw [h]⟩
theorem t64i {z : Int} (h : fit z) : (Int64.ofInt z).toInt = z := by rw [ti_ofI, bm_fit h]
theorem isR_S {N D : Int} (hN : -1000 ≤ N ∧ N ≤ 1000) (hD : -1000 ≤ D ∧ D ≤ 1000) : isR (Int64.ofInt N) (Int64.ofInt D) = some (lowS N D) := by
  have eD : (Int64.ofInt D).toInt = D := t64i (by unfold fit; omega)
  have eN : (Int64.ofInt N).toInt = N := t64i (by unfold fit; omega)
  unfold isR lowS
  rw [eD]
  by_cases h : 0 ≤ D
  · rw [if_pos h, if_pos h, if_pos h]
  · rw [if_neg h, if_neg h, if_neg h, negO_t (by rw [eN]; unfold fit; omega), bd_s, negO_t (by rw [eD]; unfold fit; omega), bd_s, Int64.ofInt_neg, Int64.ofInt_neg]
theorem s_is {st : St} {o : Nat} {N D : Int} {Φ : St → Nat → Prop} {Φa : St → Prop} (hN : -1000 ≤ N ∧ N ≤ 1000) (hD : -1000 ≤ D ∧ D ≤ 1000) (h0 : D ≠ 0) (h : Φ (putP st o (lowS N D)) o) : w_X2_is st o (Int64.ofInt N) (Int64.ofInt D) Φ Φa := by
  refine s_X2_is (by rw [t64i (by unfold fit; omega)]; exact h0) (fun v hv => ?_) (fun hv => ?_)
  · rw [isR_S hN hD] at hv; cases hv; exact h
  · rw [isR_S hN hD] at hv; cases hv
theorem gI_pP {st : St} {o : Nat} {v : Int64 × Int64} {a j : Nat} : sI (putP st o v) a j = sI st a j := by unfold putP; rw [gI_pL, gI_pL]
theorem pR_pP {st : St} {o : Nat} {v : Int64 × Int64} : pR (putP st o v) o = v := by
  unfold pR putP; rw [gL_pL, if_neg (by omega), gL_pL, if_pos ⟨rfl, rfl⟩, gL_pL, if_pos ⟨rfl, rfl⟩]
theorem pR_pN {st : St} {o a : Nat} {v : Int64 × Int64} (h : a ≠ o) : pR (putP st o v) a = pR st a := by
  unfold pR putP; rw [gL_pL, if_neg (by omega), gL_pL, if_neg (by omega), gL_pL, if_neg (by omega), gL_pL, if_neg (by omega)]
theorem Fr_P {W : Nat → Nat → Prop} {x y : Nat} {st s1 : St} {o : Nat} {v : Int64 × Int64} (h : Fr W x y st s1) (hw : ∀ j, j < 2 → W o j) : Fr W x y st (putP s1 o v) := Fr_L (Fr_L h (Or.inl (hw 0 (by omega)))) (Or.inl (hw 1 (by omega)))
def linF (a b c : Nat → Int) : Prop := ∀ k, k < 3 → (a k - b k) * (c (axF b c) - b (axF b c)) = (a (axF b c) - b (axF b c)) * (c k - b k)
theorem x_two_l {st : St} {x1 x2 x3 : Nat} {a b c : Nat → Int} {v w : Int} {Φ : St → Int32 → Prop} {Φa : St → Prop} {E0 : St → Prop} {E1 : St → Int32 → Int32 → Prop} (ha : ∀ k, k < 3 → sI st x1 k = Int32.ofInt (a k)) (hb : ∀ k, k < 3 → sI st x2 k = Int32.ofInt (b k)) (hc : ∀ k, k < 3 → sI st x3 k = Int32.ofInt (c k)) (ba : ∀ k, k < 3 → 0 ≤ a k ∧ a k ≤ 4) (bb : ∀ k, k < 3 → 0 ≤ b k ∧ b k ≤ 4) (bc : ∀ k, k < 3 → 0 ≤ c k ∧ c k ≤ 4) (hv : -4 ≤ v ∧ v ≤ 4) (hw : -4 ≤ w ∧ w ≤ 4) (h1 : (∀ k, k < 3 → (a k - b k) * v = w * (c k - b k)) → E1 st (Int32.ofInt v) (Int32.ofInt w)) (h0 : (¬ ∀ k, k < 3 → (a k - b k) * v = w * (c k - b k)) → E0 st) : w_X0_weighsTwo_l41 Φ Φa E0 E1 gFU st x1 x2 x3 (Int32.ofInt v) (Int32.ofInt w) 0 := by
  refine loop_up (α := Int32) (L := fun m x => w_X0_weighsTwo_l41 Φ Φa E0 E1 m st x1 x2 x3 (Int32.ofInt v) (Int32.ofInt w) x) 3 (fun i x => x = Int32.ofNat i ∧ ∀ k, k < i → (a k - b k) * v = w * (c k - b k)) (fun m i x hi hA k9 => ?_) (fun m x hA => ?_) gFU 0 0 (by omega) (gFU_big (by omega)) ⟨rfl, fun k hk => absurd hk (by omega)⟩
  · obtain ⟨e, hA⟩ := hA
    subst e
    have e3 : ((3 : Int32) ≤ Int32.ofNat i) = (3 ≤ i) := le_of (m := 3) (by omega) (by omega)
    have a0 := ba i hi; have b0 := bb i hi; have c0 := bc i hi
    have m1 := mB (x := a i - b i) (y := v) (by omega) hv
    have m2 := mB (x := w) (y := c i - b i) hw (by omega)
    rw [w_X0_weighsTwo_l41, e3, vp_of (by omega), nn_of (by omega), ha i hi, hb i hi, hc i hi, ← Int32.ofInt_sub, ← Int32.ofInt_sub, ← Int32.ofInt_mul, ← Int32.ofInt_mul, oi_eq (by omega) (by omega)]
    refine ⟨fun h => absurd h (by omega), fun _ => ⟨hi, fun h => k9 _ ⟨succ_of i, fun k hk => ?_⟩, fun h => h0 (fun g => h (g i hi))⟩⟩
    by_cases e : k = i
    · subst e; exact h
    · exact hA k (by omega)
  · obtain ⟨e, hA⟩ := hA
    subst e
    rw [w_X0_weighsTwo_l41]
    exact ⟨fun _ => h1 hA, fun h => absurd (Int32.le_refl _) h⟩
/-- the component weighs a point between two -/
theorem x_two {st : St} {x1 x2 x3 : Nat} {a b c : Nat → Int} {Φ : St → Int32 → Prop} {Φa : St → Prop} (ha : ∀ k, k < 3 → sI st x1 k = Int32.ofInt (a k)) (hb : ∀ k, k < 3 → sI st x2 k = Int32.ofInt (b k)) (hc : ∀ k, k < 3 → sI st x3 k = Int32.ofInt (c k)) (ba : ∀ k, k < 3 → 0 ≤ a k ∧ a k ≤ 4) (bb : ∀ k, k < 3 → 0 ≤ b k ∧ b k ≤ 4) (bc : ∀ k, k < 3 → 0 ≤ c k ∧ c k ≤ 4) (hD : b 0 ≠ c 0 ∨ b 1 ≠ c 1) (h1 : linF a b c → Φ (putP (putP st 164 (lowS (c (axF b c) - b (axF b c) - (a (axF b c) - b (axF b c))) (c (axF b c) - b (axF b c)))) 166 (lowS (a (axF b c) - b (axF b c)) (c (axF b c) - b (axF b c)))) 1) (h0 : ¬ linF a b c → Φ st 0) : w_X0_weighsTwo st x1 x2 x3 Φ Φa := by
  have go : ∀ z : Nat, z < 2 → z = axF b c → w_X0_weighsTwo_b14 Φ Φa st x1 x2 x3 (Int32.ofNat z) := fun z hz ez => by
    unfold linF at h1 h0
    rw [← ez] at h1 h0
    have hne : c z - b z ≠ 0 := by
      rw [ez]; unfold axF
      by_cases e : b 0 = c 0
      · rw [if_neg (fun h => h e)]; rcases hD with h | h <;> omega
      · rw [if_pos e]; omega
    have a0 := ba z (by omega); have b0 := bb z (by omega); have c0 := bc z (by omega)
    unfold w_X0_weighsTwo_b14
    rw [vp_of (by omega), nn_of (by omega), ha z (by omega), hb z (by omega), hc z (by omega)]
    refine ⟨by omega, ?_⟩
    rintro _ rfl _ rfl
    rw [← Int32.ofInt_sub, ← Int32.ofInt_sub]
    refine x_two_l ha hb hc ba bb bc (by omega) (by omega) (fun h => ?_) (fun h => ?_)
    · unfold w_X0_weighsTwo_b82
      rw [← Int32.ofInt_sub, t6432 (by omega), t6432 (by omega), t6432 (by omega)]
      refine s_is (by omega) (by omega) hne ?_
      exact s_is (by omega) (by omega) hne (h1 h)
    · unfold w_X0_weighsTwo_b74
      exact h0 h
  unfold w_X0_weighsTwo
  have b0 := bb 0 (by omega); have c0 := bc 0 (by omega)
  rw [hb 0 (by omega), hc 0 (by omega), ne_eq, oi_eq (by omega) (by omega)]
  refine ⟨fun h => go 0 (by omega) (by unfold axF; rw [if_pos h]), fun h => go 1 (by omega) (by unfold axF; rw [if_neg (fun g => g h)])⟩
theorem x_cross {st : St} {x1 x2 x3 : Nat} {a b c : Nat → Int} {Φ : Int32 → Prop} (ha : ∀ k, k < 3 → sI st x1 k = Int32.ofInt (a k)) (hb : ∀ k, k < 3 → sI st x2 k = Int32.ofInt (b k)) (hc : ∀ k, k < 3 → sI st x3 k = Int32.ofInt (c k)) (h : Φ (Int32.ofInt (crF a b c))) : w_X0_cross st x1 x2 x3 Φ := by
  unfold w_X0_cross
  rw [ha 0 (by omega), ha 1 (by omega), hb 0 (by omega), hb 1 (by omega), hc 0 (by omega), hc 1 (by omega)]
  simp only [← Int32.ofInt_sub, ← Int32.ofInt_mul]
  exact h
/-- the component weighs a point among three -/
theorem x_three {st : St} {x1 x2 x3 x4 : Nat} {a b c d : Nat → Int} {Φ : St → Int32 → Prop} {Φa : St → Prop} (ha : ∀ k, k < 3 → sI st x1 k = Int32.ofInt (a k)) (hb : ∀ k, k < 3 → sI st x2 k = Int32.ofInt (b k)) (hc : ∀ k, k < 3 → sI st x3 k = Int32.ofInt (c k)) (hd : ∀ k, k < 3 → sI st x4 k = Int32.ofInt (d k)) (ba : ∀ k, k < 3 → 0 ≤ a k ∧ a k ≤ 4) (bb : ∀ k, k < 3 → 0 ≤ b k ∧ b k ≤ 4) (bc : ∀ k, k < 3 → 0 ≤ c k ∧ c k ≤ 4) (bd : ∀ k, k < 3 → 0 ≤ d k ∧ d k ≤ 4) (h1 : crF b c d ≠ 0 → Φ (putP (putP (putP st 164 (lowS (crF b c d - crF b a d - crF b c a) (crF b c d))) 166 (lowS (crF b a d) (crF b c d))) 168 (lowS (crF b c a) (crF b c d))) 1) (h0 : crF b c d = 0 → Φ st 0) : w_X0_weighsThree st x1 x2 x3 x4 Φ Φa := by
  have n1 := cr_b bb bc bd
  have n2 := cr_b bb ba bd
  have n3 := cr_b bb bc ba
  unfold w_X0_weighsThree
  refine x_cross hb hc hd ?_
  have e0 : (Int32.ofInt (crF b c d) = 0) = (crF b c d = 0) := oi_eq (b := 0) (by omega) (by omega)
  rw [ne_eq, e0]
  refine ⟨fun hne => ?_, h0⟩
  refine x_cross hb ha hd (x_cross hb hc ha ?_)
  rw [← Int32.ofInt_sub, ← Int32.ofInt_sub, t6432 (by omega), t6432 (by omega), t6432 (by omega), t6432 (by omega)]
  refine s_is (by omega) (by omega) hne ?_
  refine s_is (by omega) (by omega) hne ?_
  exact s_is (by omega) (by omega) hne (h1 hne)
/-! of points -/
def wDn (K G n : Nat) (S : Nat → Nat) : Int := if n = 1 then 1 else if n = 2 then cI K G (S 1) (axF (cI K G (S 0)) (cI K G (S 1))) - cI K G (S 0) (axF (cI K G (S 0)) (cI K G (S 1))) else crF (cI K G (S 0)) (cI K G (S 1)) (cI K G (S 2))
def w1n (K G p n : Nat) (S : Nat → Nat) : Int := if n = 1 then 0 else if n = 2 then cI K G p (axF (cI K G (S 0)) (cI K G (S 1))) - cI K G (S 0) (axF (cI K G (S 0)) (cI K G (S 1))) else crF (cI K G (S 0)) (cI K G p) (cI K G (S 2))
def w2n (K G p n : Nat) (S : Nat → Nat) : Int := if n = 3 then crF (cI K G (S 0)) (cI K G (S 1)) (cI K G p) else 0
/-- the weights' numbers above the line -/
def wNu (K G p n : Nat) (S : Nat → Nat) (i : Nat) : Int := if i = 0 then wDn K G n S - w1n K G p n S - w2n K G p n S else if i = 1 then w1n K G p n S else w2n K G p n S
/-- whether the set tells the point's weights -/
def wOk (K G p n : Nat) (S : Nat → Nat) : Prop := if n = 1 then S 0 = p else if n = 2 then linF (cI K G p) (cI K G (S 0)) (cI K G (S 1)) else wDn K G n S ≠ 0
/-- a weight -/
def wLo (K G p n : Nat) (S : Nat → Nat) (i : Nat) : Int64 × Int64 := lowS (wNu K G p n S i) (wDn K G n S)
/-- numbers turned so that the line's lower side is above 0 -/
def wUp (K G p n : Nat) (S : Nat → Nat) (i : Nat) : Int := if 0 ≤ wDn K G n S then wNu K G p n S i else -wNu K G p n S i
theorem cI_b {K G p k : Nat} (hK : K = 2 ∨ K = 3) (hG : 1 ≤ G ∧ G ≤ 4) (hp : p < ptN K G) (hk : k < 3) : 0 ≤ cI K G p k ∧ cI K G p k ≤ 4 := by
  have := pt4 hK hG hp hk
  unfold cI; omega
def nsO (G : Nat) : Bool := (List.range (ptN 3 G)).all fun p => (List.range (ptN 3 G)).all fun q => p == q || !(ptV 3 G p 0 == ptV 3 G q 0) || !(ptV 3 G p 1 == ptV 3 G q 1)
theorem nsO_t : nsO 1 = true ∧ nsO 2 = true ∧ nsO 3 = true ∧ nsO 4 = true := by decide +kernel
theorem nsB {G p q : Nat} (hG : 1 ≤ G ∧ G ≤ 4) (hp : p < ptN 3 G) (hq : q < ptN 3 G) (h : p ≠ q) : ptV 3 G p 0 ≠ ptV 3 G q 0 ∨ ptV 3 G p 1 ≠ ptV 3 G q 1 := by
  have h1 : nsO G = true := by
    obtain ⟨a, b, c, d⟩ := nsO_t
    rcases (by omega : G = 1 ∨ G = 2 ∨ G = 3 ∨ G = 4) with rfl | rfl | rfl | rfl
    · exact a
    · exact b
    · exact c
    · exact d
  unfold nsO at h1
  have h2 := List.all_eq_true.mp (List.all_eq_true.mp h1 p (List.mem_range.mpr hp)) q (List.mem_range.mpr hq)
  rw [Bool.or_eq_true_iff, Bool.or_eq_true_iff] at h2
  rcases h2 with (h2 | h2) | h2
  · exact absurd (eq_of_beq h2) h
  · left; intro e; rw [e] at h2; simp at h2
  · right; intro e; rw [e] at h2; simp at h2
theorem cI_ne {K G p q : Nat} (hK : K = 2 ∨ K = 3) (hG : 1 ≤ G ∧ G ≤ 4) (hp : p < ptN K G) (hq : q < ptN K G) (h : p ≠ q) : cI K G p 0 ≠ cI K G q 0 ∨ cI K G p 1 ≠ cI K G q 1 := by
  unfold cI
  rcases hK with rfl | rfl
  · have h1 := (pt2 G (by omega) hG.1 p hp).1
    have h2 := (pt2 G (by omega) hG.1 q hq).1
    left; rw [h1, h2]; omega
  · have := nsB hG hp hq h
    omega
theorem wDn_nz {K G p n : Nat} {S : Nat → Nat} (hK : K = 2 ∨ K = 3) (hG : 1 ≤ G ∧ G ≤ 4) (hS : ∀ i, i < n → S i < ptN K G) (hd : n = 2 → S 0 ≠ S 1) (h : wOk K G p n S) : wDn K G n S ≠ 0 := by
  unfold wOk at h
  by_cases e1 : n = 1
  · unfold wDn; rw [if_pos e1]; decide
  · by_cases e2 : n = 2
    · have := cI_ne hK hG (hS 0 (by omega)) (hS 1 (by omega)) (hd e2)
      unfold wDn axF
      rw [if_neg e1, if_pos e2]
      by_cases e : cI K G (S 0) 0 = cI K G (S 1) 0
      · rw [if_neg (fun h => h e)]; rcases this with h | h <;> omega
      · rw [if_pos e]; omega
    · rw [if_neg e1, if_neg e2] at h; exact h
theorem w_b {K G p n : Nat} {S : Nat → Nat} (hK : K = 2 ∨ K = 3) (hG : 1 ≤ G ∧ G ≤ 4) (hn : 1 ≤ n ∧ n ≤ 3) (hp : p < ptN K G) (hS : ∀ i, i < n → S i < ptN K G) : (-32 ≤ wDn K G n S ∧ wDn K G n S ≤ 32) ∧ ∀ i, -96 ≤ wNu K G p n S i ∧ wNu K G p n S i ≤ 96 := by
  have hc : ∀ i, i < n → ∀ k, k < 3 → 0 ≤ cI K G (S i) k ∧ cI K G (S i) k ≤ 4 := fun i hi k hk => cI_b hK hG (hS i hi) hk
  have hcp : ∀ k, k < 3 → 0 ≤ cI K G p k ∧ cI K G p k ≤ 4 := fun k hk => cI_b hK hG hp hk
  have h3 : (-32 ≤ wDn K G n S ∧ wDn K G n S ≤ 32) ∧ (-32 ≤ w1n K G p n S ∧ w1n K G p n S ≤ 32) ∧ (-32 ≤ w2n K G p n S ∧ w2n K G p n S ≤ 32) := by
    unfold wDn w1n w2n
    rcases (by omega : n = 1 ∨ n = 2 ∨ n = 3) with rfl | rfl | rfl
    · simp
    · have hz : axF (cI K G (S 0)) (cI K G (S 1)) < 3 := by unfold axF; split <;> omega
      have := hc 0 (by omega) _ hz
      have := hc 1 (by omega) _ hz
      have := hcp _ hz
      rw [if_neg (by omega), if_pos rfl, if_neg (by omega), if_pos rfl, if_neg (by omega)]
      omega
    · rw [if_neg (by omega), if_neg (by omega), if_neg (by omega), if_neg (by omega), if_pos rfl]
      exact ⟨cr_b (hc 0 (by omega)) (hc 1 (by omega)) (hc 2 (by omega)), cr_b (hc 0 (by omega)) hcp (hc 2 (by omega)), cr_b (hc 0 (by omega)) (hc 1 (by omega)) hcp⟩
  refine ⟨h3.1, fun i => ?_⟩
  unfold wNu
  split
  · omega
  · split <;> omega
def wWx (a j : Nat) : Prop := (a = 164 ∨ a = 166 ∨ a = 168) ∧ j < 2
/-- the component weighs -/
theorem x_weighs {st : St} {K G M N p n : Nat} {S : Nat → Nat} {Φ : St → Int32 → Prop} {Φa : St → Prop} (hs : Hs st K G M N) (hp : p < ptN K G) (hn : 1 ≤ n ∧ n ≤ 3) (hS : ∀ i, i < n → S i < ptN K G) (hd : n = 2 → S 0 ≠ S 1) (hv : ∀ i, i < n → sI st 136 i = Int32.ofNat (S i)) (h1 : wOk K G p n S → ∀ s, Fr wWx 0 0 st s → (∀ i, i < n → pR s (164 + 2 * i) = wLo K G p n S i) → Φ s 1) (h0 : ¬ wOk K G p n S → ∀ s, Fr wWx 0 0 st s → Φ s 0) : w_X0_weighs st (Int32.ofNat p) 136 (Int32.ofNat n) Φ Φa := by
  obtain ⟨q1, q2, q3, q4, q5, q6, q7, q8, q9, q10, q11, q12, q13, q14, q15, q16⟩ := hs
  have hp15 := pt15 q1 q2
  have pc : ∀ q, q < ptN K G → ∀ k, k < 3 → sI st (2 + (16 + q)) k = Int32.ofInt (cI K G q k) := fun q hq k hk => q14 q k hq hk
  have pb : ∀ q, q < ptN K G → ∀ k, k < 3 → 0 ≤ cI K G q k ∧ cI K G q k ≤ 4 := fun q hq k hk => cI_b q1 q2 hq hk
  have e1 : (Int32.ofNat n = 1) = (n = 1) := ofE (n := 1) (by omega) (by omega)
  have e2 : (Int32.ofNat n = 2) = (n = 2) := ofE (n := 2) (by omega) (by omega)
  unfold w_X0_weighs
  rw [vp_of (by omega), ne_eq, e1, ne_eq, e2, nn_of (by omega)]
  refine ⟨by omega, fun f1 => ?_, fun f1 => ?_⟩
  · have s0 := hS 0 (by omega)
    have s1 := hS 1 (by omega)
    rw [hv 0 (by omega), hv 1 (by omega), vp_of (by omega), vp_of (by omega), nn_of (by omega), nn_of (by omega)]
    refine ⟨by omega, by omega, fun f2 => ?_, fun f2 => ?_⟩
    · have f3 : n = 3 := by omega
      subst f3
      have s2 := hS 2 (by omega)
      rw [hv 2 (by omega), vp_of (by omega), nn_of (by omega)]
      have ed : wDn K G 3 S = crF (cI K G (S 0)) (cI K G (S 1)) (cI K G (S 2)) := by unfold wDn; rw [if_neg (by omega), if_neg (by omega)]
      have ea : w1n K G p 3 S = crF (cI K G (S 0)) (cI K G p) (cI K G (S 2)) := by unfold w1n; rw [if_neg (by omega), if_neg (by omega)]
      have eb : w2n K G p 3 S = crF (cI K G (S 0)) (cI K G (S 1)) (cI K G p) := by unfold w2n; rw [if_pos rfl]
      have eo : wOk K G p 3 S = (wDn K G 3 S ≠ 0) := by unfold wOk; rw [if_neg (by omega), if_neg (by omega)]
      rw [eo, ed] at h1 h0
      refine ⟨by omega, x_three (pc p hp) (pc _ s0) (pc _ s1) (pc _ s2) (pb p hp) (pb _ s0) (pb _ s1) (pb _ s2) (fun hne => ⟨Or.inr rfl, h1 hne _ (Fr_P (Fr_P (Fr_P Fr_rf (fun j hj => ⟨Or.inl rfl, hj⟩)) (fun j hj => ⟨Or.inr (Or.inl rfl), hj⟩)) (fun j hj => ⟨Or.inr (Or.inr rfl), hj⟩)) (fun i hi => ?_)⟩) (fun he => ⟨Or.inl rfl, h0 (fun g => g he) _ Fr_rf⟩)⟩
      unfold wLo wNu
      rw [ed, ea, eb]
      rcases (by omega : i = 0 ∨ i = 1 ∨ i = 2) with rfl | rfl | rfl
      · rw [pR_pN (by omega), pR_pN (by omega)]; exact pR_pP
      · rw [pR_pN (by omega)]; exact pR_pP
      · exact pR_pP
    · subst f2
      have ed : wDn K G 2 S = cI K G (S 1) (axF (cI K G (S 0)) (cI K G (S 1))) - cI K G (S 0) (axF (cI K G (S 0)) (cI K G (S 1))) := by unfold wDn; rw [if_neg (by omega), if_pos rfl]
      have ea : w1n K G p 2 S = cI K G p (axF (cI K G (S 0)) (cI K G (S 1))) - cI K G (S 0) (axF (cI K G (S 0)) (cI K G (S 1))) := by unfold w1n; rw [if_neg (by omega), if_pos rfl]
      have eb : w2n K G p 2 S = 0 := by unfold w2n; rw [if_neg (by omega)]
      have eo : wOk K G p 2 S = linF (cI K G p) (cI K G (S 0)) (cI K G (S 1)) := by unfold wOk; rw [if_neg (by omega), if_pos rfl]
      rw [eo] at h1 h0
      refine x_two (pc p hp) (pc _ s0) (pc _ s1) (pb p hp) (pb _ s0) (pb _ s1) (cI_ne q1 q2 s0 s1 (hd rfl)) (fun hl => ⟨Or.inr rfl, h1 hl _ (Fr_P (Fr_P Fr_rf (fun j hj => ⟨Or.inl rfl, hj⟩)) (fun j hj => ⟨Or.inr (Or.inl rfl), hj⟩)) (fun i hi => ?_)⟩) (fun he => ⟨Or.inl rfl, h0 he _ Fr_rf⟩)
      unfold wLo wNu
      rw [ed, ea, eb, Int.sub_zero]
      rcases (by omega : i = 0 ∨ i = 1) with rfl | rfl
      · rw [pR_pN (by omega)]; exact pR_pP
      · exact pR_pP
  · subst f1
    have s0 := hS 0 (by omega)
    have eo : wOk K G p 1 S = (S 0 = p) := by unfold wOk; rw [if_pos rfl]
    have el : wLo K G p 1 S 0 = lowS 1 1 := by unfold wLo wNu wDn w1n w2n; simp
    rw [eo] at h1 h0
    refine s_is (N := 1) (D := 1) (by omega) (by omega) (by omega) ?_
    have F : Fr wWx 0 0 st (putP st (164 + 2 * 0) (lowS 1 1)) := Fr_P Fr_rf (fun j hj => ⟨Or.inl rfl, hj⟩)
    rw [gI_pP, hv 0 (by omega), ne_eq, ofE (by omega) (by omega)]
    refine ⟨fun hne => h0 hne _ F, fun he => h1 he _ F (fun i hi => ?_)⟩
    rw [show i = 0 by omega, el]
    exact pR_pP
