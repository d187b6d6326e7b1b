/-! PLAIN LAW, 27: whether a square solves the table: the component -/
set_option maxRecDepth 100000
def kSg (T : Nat → Nat → Int64) (n : Nat) (I J : Nat → Nat) : Int64 := if xM T n I J (n + 1) (n + 1) ≤ 0 then -1 else 1
def kTot (T : Nat → Nat → Int64) (n : Nat) (I J : Nat → Nat) : Int64 := xM T n I J (n + 1) (n + 1) * kSg T n I J
def kRw (T : Nat → Nat → Int64) (n : Nat) (I J : Nat → Nat) (k : Nat) : Int64 := (if (n + k) % 2 = 0 then kSg T n I J else -kSg T n I J) * xM T n I J k n
def kCw (T : Nat → Nat → Int64) (n : Nat) (I J : Nat → Nat) (k : Nat) : Int64 := (if (n + k) % 2 = 0 then kSg T n I J else -kSg T n I J) * xM T n I J n k
def kWo (T : Nat → Nat → Int64) (n : Nat) (I J : Nat → Nat) : Int64 := (-kSg T n I J) * xM T n I J n n
def kHr (T : Nat → Nat → Int64) (n : Nat) (I J : Nat → Nat) (r : Nat) : Int64 := smL (fun k => kCw T n I J k * T r (J k)) n
def kHc (T : Nat → Nat → Int64) (n : Nat) (I J : Nat → Nat) (c : Nat) : Int64 := smL (fun k => kRw T n I J k * T (I k) c) n
def kOK (T : Nat → Nat → Int64) (h w n : Nat) (I J : Nat → Nat) : Bool := decide (xM T n I J (n + 1) (n + 1) ≠ 0) && decide (∀ k, k < n → ¬ kRw T n I J k < 0 ∧ 0 ≤ kCw T n I J k) && decide (∀ r, r < h → kHr T n I J r ≤ kWo T n I J) && decide (∀ c, c < w → kWo T n I J ≤ kHc T n I J c)
/-- a table, its size, in the component -/
def Tb (st : St) (T : Nat → Nat → Int64) (h w : Nat) : Prop := sI st 0 8 = Int32.ofNat h ∧ sI st 0 9 = Int32.ofNat w ∧ ∀ r c, r < h → c < w → sL st (96 + r) c = T r c
/-- the places of a square -/
def Pl (st : St) (n : Nat) (I J : Nat → Nat) : Prop := ∀ i, i < n → sI st 129 i = Int32.ofNat (I i) ∧ sI st 130 i = Int32.ofNat (J i)
theorem Tb_fr {st st' : St} {T : Nat → Nat → Int64} {h w : Nat} {W : Nat → Nat → Prop} {x y : Nat} (hF : Fr W x y st st') (hN : 201 ≤ sN st) (hh : h ≤ 27) (hW : ∀ a j, (a = 0 ∧ (j = 8 ∨ j = 9)) ∨ (96 ≤ a ∧ a < 123) → ¬ W a j) (hT : Tb st T h w) : Tb st' T h w := by
  obtain ⟨h1, h2, h3⟩ := hT
  exact ⟨by rw [(fr_at hF (Or.inl (by omega)) (hW 0 8 (by omega))).1]; exact h1, by rw [(fr_at hF (Or.inl (by omega)) (hW 0 9 (by omega))).1]; exact h2, fun r c hr hc => by rw [(fr_at hF (Or.inl (by omega)) (hW _ c (by omega))).2.1]; exact h3 r c hr hc⟩
theorem Pl_fr {st st' : St} {n : Nat} {I J : Nat → Nat} {W : Nat → Nat → Prop} {x y : Nat} (hF : Fr W x y st st') (hN : 201 ≤ sN st) (hW : ∀ a j, a = 129 ∨ a = 130 → ¬ W a j) (hP : Pl st n I J) : Pl st' n I J := fun i hi => by
  rw [(fr_at hF (Or.inl (by omega)) (hW 129 i (by omega))).1, (fr_at hF (Or.inl (by omega)) (hW 130 i (by omega))).1]; exact hP i hi
/-! the bordered square -/
def wSq (a _j : Nat) : Prop := 124 ≤ a ∧ a ≤ 127
theorem s_border {st : St} {T : Nat → Nat → Int64} {h w n : Nat} {I J : Nat → Nat} {Φ : St → Prop} (hN : 201 ≤ sN st) (hn : 1 ≤ n ∧ n ≤ 3) (hh : h ≤ 27) (hw : w ≤ 3) (hT : Tb st T h w) (hP : Pl st n I J) (hI : ∀ i, i < n → I i < h) (hJ : ∀ i, i < n → J i < w) (hΦ : ∀ s, Fr wSq 0 0 st s → (∀ i j, i ≤ n → j ≤ n → sL s (124 + i) j = sqX T n I J i j) → Φ s) : w_X0_border st (Int32.ofNat n) Φ := by
  unfold w_X0_border
  refine loop_up (α := St × Int32) (L := fun m a => w_X0_border_l2 Φ (fun (s18 : St) (x1 : Int32) => w_X0_border_b70 Φ s18 x1) m a.1 (Int32.ofNat n) a.2) n (fun i a => a.2 = Int32.ofNat i ∧ Fr wSq 0 0 st a.1 ∧ (∀ p j, p < i → j ≤ n → sL a.1 (124 + p) j = sqX T n I J p j) ∧ ∀ p, p < i → sL a.1 (124 + n) p = 1) (fun m i a hi hA k9 => ?_) (fun m a hA => ?_) gFU 0 (st, 0) (by omega) (gFU_big (by omega)) ⟨rfl, Fr_rf, fun p j hp => absurd hp (by omega), fun p hp => absurd hp (by omega)⟩
  · obtain ⟨s, x⟩ := a
    obtain ⟨e, hF, hv, hl⟩ := hA
    dsimp only at e hF hv hl
    subst e
    show w_X0_border_l2 Φ _ (m + 1) s _ _
    rw [w_X0_border_l2, le_of (by omega) (by omega)]
    refine ⟨fun h => absurd h (by omega), fun _ => ?_⟩
    refine loop_up (α := St × Int32) (L := fun m' a => w_X0_border_l9 Φ (fun (s11 : St) (x1 : Int32) (x2 : Int32) => w_X0_border_b46 Φ (w_X0_border_l2 Φ (fun (s18 : St) (x1 : Int32) => w_X0_border_b70 Φ s18 x1) m) s11 x1 x2) m' a.1 (Int32.ofNat n) (Int32.ofNat i) a.2) n (fun j a => a.2 = Int32.ofNat j ∧ Fr wSq 0 0 st a.1 ∧ (∀ p j, p < i → j ≤ n → sL a.1 (124 + p) j = sqX T n I J p j) ∧ (∀ p, p < i → sL a.1 (124 + n) p = 1) ∧ ∀ q, q < j → sL a.1 (124 + i) q = sqX T n I J i q) (fun m' j a hj hB k8 => ?_) (fun m' a hB => ?_) gFU 0 (s, 0) (by omega) (gFU_big (by omega)) ⟨rfl, hF, hv, hl, fun q hq => absurd hq (by omega)⟩
    · obtain ⟨s', y⟩ := a
      obtain ⟨e, gF, gv, gl, gq⟩ := hB
      dsimp only at e gF gv gl gq
      subst e
      show w_X0_border_l9 Φ _ (m' + 1) s' _ _ _
      obtain ⟨pI, pJ⟩ := Pl_fr gF hN (fun a j h hw => by unfold wSq at hw; omega) hP i hi
      obtain ⟨-, pJ⟩ := Pl_fr gF hN (fun a j h hw => by unfold wSq at hw; omega) hP j hj
      have hIi := hI i hi
      have hJj := hJ j hj
      have tv := (Tb_fr gF hN hh (fun a j h hw => by unfold wSq at hw; omega) hT).2.2 (I i) (J j) hIi hJj
      have ni : (Int32.ofNat i).toNatClampNeg = i := nn_of (by omega)
      have nj : (Int32.ofNat j).toNatClampNeg = j := nn_of (by omega)
      rw [w_X0_border_l9, le_of (by omega) (by omega), ni, nj, pI, pJ, vp_of (by omega), vp_of (by omega), vp_of (by omega), vp_of (by omega), vp_of (by omega), vp_of (by omega), nn_of (by omega), nn_of (by omega), tv]
      refine ⟨fun h => absurd h (by omega), fun _ => ⟨by omega, by omega, by omega, by omega, by omega, by omega, ?_⟩⟩
      intro s9 hs9
      refine k8 (s9, _) ?_
      dsimp only
      subst hs9
      refine ⟨succ_of j, Fr_L gF (Or.inl ⟨by omega, by omega⟩), fun p q hp hq => by rw [gL_pL, if_neg (by omega)]; exact gv p q hp hq, fun p hp => by rw [gL_pL, if_neg (by omega)]; exact gl p hp, fun q hq => ?_⟩
      rw [gL_pL]
      by_cases e : q = j
      · subst e; rw [if_pos ⟨rfl, rfl⟩]; unfold sqX; rw [if_pos hi, if_pos hj]
      · rw [if_neg (by omega)]; exact gq q (by omega)
    · obtain ⟨s', y⟩ := a
      obtain ⟨e, gF, gv, gl, gq⟩ := hB
      dsimp only at e gF gv gl gq
      subst e
      show w_X0_border_l9 Φ _ (m' + 1) s' _ _ _
      rw [w_X0_border_l9]
      refine ⟨fun _ => ?_, fun h => absurd (Int32.le_refl _) h⟩
      unfold w_X0_border_b46
      rw [vp_of (by omega), vp_of (by omega), nn_of (by omega), nn_of (by omega)]
      refine ⟨by omega, by omega, ?_⟩
      rintro _ rfl
      intro s9 hs9
      refine k9 (s9, _) ?_
      dsimp only
      subst hs9
      refine ⟨succ_of i, Fr_L (Fr_L gF (Or.inl ⟨by omega, by omega⟩)) (Or.inl ⟨by omega, by omega⟩), fun p q hp hq => ?_, fun p hp => ?_⟩
      · rw [gL_pL, if_neg (by omega), gL_pL]
        by_cases e : p = i
        · subst e
          by_cases e2 : q = n
          · subst e2; rw [if_pos ⟨rfl, rfl⟩]; unfold sqX; rw [if_pos hi, if_neg (by omega)]
          · rw [if_neg (by omega)]; exact gq q (by omega)
        · rw [if_neg (by omega)]; exact gv p q (by omega) hq
      · rw [gL_pL]
        by_cases e : p = i
        · subst e; rw [if_pos ⟨rfl, rfl⟩]
        · rw [if_neg (by omega), gL_pL, if_neg (by omega)]; exact gl p (by omega)
  · obtain ⟨s, x⟩ := a
    obtain ⟨e, hF, hv, hl⟩ := hA
    dsimp only at e hF hv hl
    subst e
    show w_X0_border_l2 Φ _ (m + 1) s _ _
    rw [w_X0_border_l2]
    refine ⟨fun _ => ?_, fun h => absurd (Int32.le_refl _) h⟩
    unfold w_X0_border_b70
    rw [vp_of (by omega), nn_of (by omega)]
    refine ⟨by omega, ?_⟩
    rintro _ rfl
    refine hΦ _ (Fr_L hF (Or.inl ⟨by omega, by omega⟩)) (fun i j hi hj => ?_)
    rw [gL_pL]
    by_cases e : i = n
    · subst e
      by_cases e2 : j = i
      · subst e2; rw [if_pos ⟨rfl, rfl⟩]; unfold sqX; rw [if_neg (by omega), if_neg (by omega)]
      · rw [if_neg (by omega), hl j (by omega)]; unfold sqX; rw [if_neg (by omega), if_pos (by omega)]
    · rw [if_neg (by omega)]; exact hv i j (by omega) hj
def sdQ (s j l : Nat) : Bool := !(s.testBit j) || !((s - 2 ^ j).testBit l) || s.testBit l
theorem sdQ_ok : ∀ s, s < 16 → ∀ j, j < 4 → ∀ l, l < 4 → sdQ s j l = true := by decide +kernel
theorem sbD (s : Nat) (hs : s < 16) (j : Nat) (hj : j < 4) (l : Nat) (hl : l < 4) (h1 : s.testBit j = true) (h2 : (s - 2 ^ j).testBit l = true) : s.testBit l = true := by
  have h := sdQ_ok s hs j hj l hl
  unfold sdQ at h
  rw [h1, h2] at h
  simpa using h
def pcQ (n c j : Nat) : Bool := decide (n = 0) || (decide (pcN (allN (n + 1) c) = if c ≤ n then n else n + 1) && (!((allN (n + 1) c).testBit j) || decide (j ≤ n)))
theorem pcQ_ok : ∀ n, n < 4 → ∀ c, c < 5 → ∀ j, j < 4 → pcQ n c j = true := by decide +kernel
theorem pcA (n : Nat) (hn : n < 4) (h1 : 1 ≤ n) (c : Nat) (hc : c < 5) : (pcN (allN (n + 1) c) = if c ≤ n then n else n + 1) ∧ ∀ j, j < 4 → (allN (n + 1) c).testBit j = true → j ≤ n := by
  have hz : decide (n = 0) = false := decide_eq_false (by omega)
  refine ⟨?_, fun j hj hb => ?_⟩
  · have h := pcQ_ok n hn c hc 0 (by omega)
    unfold pcQ at h
    rw [hz, Bool.false_or, Bool.and_eq_true] at h
    exact of_decide_eq_true h.1
  · have h := pcQ_ok n hn c hc j hj
    unfold pcQ at h
    rw [hz, Bool.false_or, Bool.and_eq_true, hb] at h
    exact of_decide_eq_true h.2
theorem dtK_cg {e f : Nat → Nat → Int64} : ∀ k s, s < 16 → (∀ i j, i < k → j < 4 → s.testBit j = true → e i j = f i j) → dtK e k s = dtK f k s
  | 0, _, _, _ => rfl
  | k + 1, s, hs, h => by
    rw [dtK, dtK]
    congr 1
    refine grS_cg 4 (by omega) (fun j hj hb => ⟨h k j (by omega) hj hb, ?_⟩)
    refine dtK_cg k _ (Nat.lt_of_le_of_lt (Nat.sub_le _ _) hs) (fun i l hi hl hbl => h i l (by omega) hl ?_)
    exact sbD s hs j hj l hl hb hbl
/-- the minor of the square at hand -/
theorem s_xM {st : St} {T : Nat → Nat → Int64} {n r c : Nat} {I J : Nat → Nat} {Φ : St → Int64 → Prop} (hN : 201 ≤ sN st) (hn : 1 ≤ n ∧ n ≤ 3) (hsq : ∀ i j, i ≤ n → j ≤ n → sL st (124 + i) j = sqX T n I J i j) (hrc : (r = n + 1 ∧ c = n + 1) ∨ (r ≤ n ∧ c ≤ n)) (h : ∀ s, Fr w128 0 0 st s → Φ s (xM T n I J r c)) : w_X0_minor st (Int32.ofNat (n + 1)) (Int32.ofNat r) (Int32.ofNat c) Φ := by
  have hp := pcA n (by omega) hn.1 c (by omega)
  have hp1 := hp.1
  refine s_minor hN (by omega) (by omega) (by omega) (by split at hp1 <;> omega) (fun s f => ?_)
  have e : dtK (fun k j => sL st (124 + (if k < r then k else k + 1)) j) (pcN (allN (n + 1) c)) (allN (n + 1) c) = xM T n I J r c := by
    unfold xM
    refine dtK_cg _ _ (allB (n + 1) (by omega) c (by omega)).2 (fun i j hi hj hb => ?_)
    have hj2 := hp.2 j hj hb
    refine hsq _ j ?_ hj2
    split at hp1 <;> split <;> omega
  rw [e]; exact h s f
