/-! PLAIN LAW, 24: the reference's determinants -/
set_option maxRecDepth 100000
def entM (T : Nat → Nat → Int64) (n : Nat) (I J : Nat → Nat) (t : Bool) (g i j : Nat) : Int64 := if j = g then (if i = n then 1 else 0) else if i = n then (if j = n then 0 else 1) else if j = n then -1 else if t then T (I j) (J i) else T (I i) (J j)
/-- the square at hand -/
def Mk (st : St) (T : Nat → Nat → Int64) (n : Nat) (I J : Nat → Nat) : Prop := sI st 175 24 = Int32.ofNat n ∧ (∀ i, i < n → sI st 189 i = Int32.ofNat (I i) ∧ I i < 27 ∧ sI st 190 i = Int32.ofNat (J i) ∧ J i < 3) ∧ ∀ i j, i < n → j < n → sL st 188 (3 * I i + J j) = T (I i) (J j)
theorem Mk_fr {st st' : St} {T : Nat → Nat → Int64} {n : Nat} {I J : Nat → Nat} {W : Nat → Nat → Prop} {x y : Nat} (hF : Fr W x y st st') (hN : 201 ≤ sN st) (hW : ∀ a j, (a = 175 ∧ j = 24) ∨ a = 189 ∨ a = 190 ∨ a = 188 → ¬ W a j) (h : Mk st T n I J) : Mk st' T n I J := by
  obtain ⟨h1, h2, h3⟩ := h
  refine ⟨by rw [(fr_at hF (Or.inl (by omega)) (hW 175 24 (Or.inl ⟨rfl, rfl⟩))).1]; exact h1, fun i hi => ?_, fun i j hi hj => by rw [(fr_at hF (Or.inl (by omega)) (hW 188 _ (by omega))).2.1]; exact h3 i j hi hj⟩
  rw [(fr_at hF (Or.inl (by omega)) (hW 189 i (by omega))).1, (fr_at hF (Or.inl (by omega)) (hW 190 i (by omega))).1]
  exact h2 i hi
theorem s_at {st : St} {T : Nat → Nat → Int64} {r c : Nat} {Φ : Int64 → Prop} (hr : r < 27) (hc : c < 3) (hT : sL st 188 (3 * r + c) = T r c) (h : Φ (T r c)) : w_X4_at st (Int32.ofNat r) (Int32.ofNat c) Φ := by
  unfold w_X4_at
  have e : 3 * Int32.ofNat r + Int32.ofNat c = Int32.ofNat (3 * r + c) := by simp only [Int32.ofNat_add, Int32.ofNat_mul]; rfl
  rw [e, vp_of (by omega), nn_of (by omega), hT]
  exact ⟨by omega, h⟩
theorem ofE {m n : Nat} (hm : m < 2 ^ 31) (hn : n < 2 ^ 31) : (Int32.ofNat m = Int32.ofNat n) = (m = n) := propext ⟨fun h => of_inj hm hn h, fun h => by rw [h]⟩
theorem s_entry {st : St} {T : Nat → Nat → Int64} {n : Nat} {I J : Nat → Nat} {t : Bool} {g i j : Nat} {p4 : Int32} {Φ : Int64 → Prop} (hM : Mk st T n I J) (hn : n ≤ 3) (hi : i ≤ n) (hj : j ≤ n) (hg : (Int32.ofNat j = p4) = (j = g)) (h : Φ (entM T n I J t g i j)) : w_X4_entry st (Int32.ofNat i) (Int32.ofNat j) (ib t) p4 Φ := by
  obtain ⟨h1, h2, h3⟩ := hM
  unfold w_X4_entry
  rw [h1]
  simp only [ne_eq, hg, ofE (show i < 2 ^ 31 by omega) (show n < 2 ^ 31 by omega), ofE (show j < 2 ^ 31 by omega) (show n < 2 ^ 31 by omega)]
  unfold entM at h
  refine ⟨fun hjg => ⟨fun hin => ⟨fun hjn => ⟨fun ht => ?_, fun ht => ?_⟩, fun hjn => ?_⟩, fun hin => ⟨fun hjn => ?_, fun hjn => ?_⟩⟩, fun hjg => ⟨fun hin => ?_, fun hin => ?_⟩⟩
  · rw [ib_z] at ht
    rw [if_neg hjg, if_neg hin, if_neg hjn, ht] at h
    obtain ⟨a1, a2, a3, a4⟩ := h2 i (by omega)
    obtain ⟨b1, b2, b3, b4⟩ := h2 j (by omega)
    rw [vp_of (by omega), vp_of (by omega), nn_of (by omega), nn_of (by omega), a1, b3]
    exact ⟨by omega, by omega, s_at a2 b4 (h3 i j (by omega) (by omega)) h⟩
  · rw [ib_z] at ht
    have ht : t = true := by cases t; exact absurd rfl ht; rfl
    rw [if_neg hjg, if_neg hin, if_neg hjn, ht] at h
    obtain ⟨a1, a2, a3, a4⟩ := h2 i (by omega)
    obtain ⟨b1, b2, b3, b4⟩ := h2 j (by omega)
    rw [vp_of (by omega), vp_of (by omega), nn_of (by omega), nn_of (by omega), b1, a3]
    exact ⟨by omega, by omega, s_at b2 a4 (h3 j i (by omega) (by omega)) h⟩
  · rw [if_neg hjg, if_neg hin, if_pos hjn] at h; exact h
  · rw [if_neg hjg, if_pos hin, if_neg hjn] at h; exact h
  · rw [if_neg hjg, if_pos hin, if_pos hjn] at h; exact h
  · rw [if_pos hjg, if_neg hin] at h; exact h
  · rw [if_pos hjg, if_pos hin] at h; exact h
theorem gr0 {f m : Nat → Int64} {n s : Nat} (hn : 1 ≤ n ∧ n ≤ 3) (hs : s < 2 ^ (n + 1)) : grS f m s (3 - n) = (0, true) := by
  rcases (by omega : n = 1 ∨ n = 2 ∨ n = 3) with rfl | rfl | rfl
  · have h3 : s.testBit 3 = false := Nat.testBit_lt_two_pow (by omega)
    have h2 : s.testBit 2 = false := Nat.testBit_lt_two_pow (by omega)
    show grS f m s 2 = _
    rw [grS, grS, grS, h3, h2]; rfl
  · have h3 : s.testBit 3 = false := Nat.testBit_lt_two_pow (by omega)
    show grS f m s 1 = _
    rw [grS, grS, h3]; rfl
  · rfl
theorem oi_n (n : Nat) : Int32.ofInt (n : Int) = Int32.ofNat n := rfl
theorem oi_1 (z : Int) : Int32.ofInt z + (-1) = Int32.ofInt (z - 1) := by
  rw [show z - 1 = z + (-1) by omega, Int32.ofInt_add]; rfl
theorem par : ∀ b, b < 6 → Int32.ofNat b - Int32.ofNat b / 2 * 2 = Int32.ofNat (b % 2) := by decide +kernel
def w193 (s a j : Nat) : Prop := a = 193 ∧ j = s
theorem s_l75 {Φ : St → Int64 → Prop} {E : St → Int32 → Int32 → Int32 → Int32 → Prop} {st0 : St} {T : Nat → Nat → Int64} {n s row g : Nat} {I J : Nat → Nat} {t : Bool} {p4 x3 : Int32} (hN : 201 ≤ sN st0) (hM : Mk st0 T n I J) (hn : 1 ≤ n ∧ n ≤ 3) (hs : s < 2 ^ (n + 1)) (hrow : row ≤ n) (hg : ∀ j, j ≤ n → (Int32.ofNat j = p4) = (j = g)) (h0 : sL st0 193 s = 0) (h : ∀ st, Fr (w193 s) 0 0 st0 st → sL st 193 s = (grS (fun j => entM T n I J t g row j) (fun u => sL st0 193 u) s 4).1 → E st (ib t) p4 x3 (Int32.ofNat s)) : w_X4_determinant_l75 Φ E gFU st0 (ib t) p4 x3 (Int32.ofNat s) (Int32.ofNat row) 0 (Int32.ofNat n) := by
  have hs16 : s < 16 := by rcases (by omega : n = 1 ∨ n = 2 ∨ n = 3) with rfl | rfl | rfl <;> omega
  refine loop_up (α := St × Int32 × Int32) (L := fun m a => w_X4_determinant_l75 Φ E m a.1 (ib t) p4 x3 (Int32.ofNat s) (Int32.ofNat row) a.2.1 a.2.2) (n + 1) (fun i a => Fr (w193 s) 0 0 st0 a.1 ∧ a.2.2 = Int32.ofInt ((n : Int) - i) ∧ (∃ b, b ≤ i ∧ a.2.1 = Int32.ofNat b ∧ (grS (fun j => entM T n I J t g row j) (fun u => sL st0 193 u) s (3 - n + i)).2 = decide (b % 2 = 0)) ∧ sL a.1 193 s = (grS (fun j => entM T n I J t g row j) (fun u => sL st0 193 u) s (3 - n + i)).1) (fun m i a hi hI k9 => ?_) (fun m a hI => ?_) gFU 0 (st0, 0, Int32.ofNat n) (by omega) (gFU_big (by omega)) ⟨Fr_rf, by rw [show ((n : Int) - (0 : Nat)) = n by omega]; rfl, ⟨0, by omega, rfl, by rw [Nat.add_zero, gr0 hn hs]; rfl⟩, by rw [Nat.add_zero, gr0 hn hs]; exact h0⟩
  · obtain ⟨st, x, y⟩ := a
    obtain ⟨hF, e1, ⟨b, b1, b2, b3⟩, hv⟩ := hI
    dsimp only at e1 hF b2 hv
    subst e1 b2
    have ej : Int32.ofInt ((n : Int) - i) = Int32.ofNat (n - i) := by rw [show ((n : Int) - i) = ((n - i : Nat) : Int) by omega]; rfl
    have ei : 3 - n + (i + 1) = (3 - n + i) + 1 := by omega
    have ej2 : 3 - (3 - n + i) = n - i := by omega
    show w_X4_determinant_l75 Φ E (m + 1) st _ _ _ _ _ _ _
    have hb := btB s hs16 (n - i) (by omega)
    have hlt : s - 2 ^ (n - i) < 16 := Nat.lt_of_le_of_lt (Nat.sub_le _ _) hs16
    have enx : Int32.ofNat (n - i) + (-1) = Int32.ofInt ((n : Int) - (i + 1 : Nat)) := by rw [← ej, oi_1]; congr 1; omega
    rw [ej, w_X4_determinant_l75, lt0_32, ti_of (by omega)]
    refine ⟨fun h => absurd h (by omega), fun _ => ⟨fun hne => ?_, fun heq => ?_⟩⟩
    · rw [decide_eq_false hne] at hb
      have hk := k9 (st, Int32.ofNat b, Int32.ofNat (n - i) + (-1))
      dsimp only at hk
      rw [ei, grS, ej2, ← hb] at hk
      unfold w_X4_determinant_b146
      dsimp only
      exact hk ⟨hF, enx, ⟨b, by omega, rfl, b3⟩, hv⟩
    · rw [decide_eq_true heq] at hb
      refine s_entry (Mk_fr hF hN (fun a j h hw => by unfold w193 at hw; omega) hM) hn.2 hrow (by omega) (hg _ (by omega)) ?_
      rw [bcB s hs16 (n - i) (by omega) hb.symm, vp_of (by omega), nn_of (by omega), vp_of (by omega), nn_of (by omega), par b (by omega)]
      refine ⟨hlt, ?_⟩
      rintro _ rfl
      have hpos : 0 < 2 ^ (n - i) := Nat.two_pow_pos _
      have hle : 2 ^ (n - i) ≤ s := Nat.ge_two_pow_of_testBit hb.symm
      have hm : sL st 193 (s - 2 ^ (n - i)) = sL st0 193 (s - 2 ^ (n - i)) := (fr_at hF (Or.inl (by omega)) (by unfold w193; omega)).2.1
      rw [hm]
      have go : ∀ z, z = (if (grS (fun j => entM T n I J t g row j) (fun u => sL st0 193 u) s (3 - n + i)).2 then entM T n I J t g row (n - i) * sL st0 193 (s - 2 ^ (n - i)) else -(entM T n I J t g row (n - i) * sL st0 193 (s - 2 ^ (n - i)))) → w_X4_determinant_b141 Φ (w_X4_determinant_l75 Φ E m) st (ib t) p4 x3 (Int32.ofNat s) (Int32.ofNat row) (Int32.ofNat b) (Int32.ofNat (n - i)) z (sL st 193 s) (Int32.ofNat s) := fun z hz => by
        unfold w_X4_determinant_b141 w_X4_determinant_b146
        rw [vp_of (by omega), nn_of (by omega)]
        refine ⟨hs16, ?_⟩
        intro s9 hs9
        refine k9 (s9, _, _) ?_
        dsimp only
        subst hs9
        rw [ei, grS, ej2, if_pos hb.symm]
        refine ⟨Fr_L hF (Or.inl ⟨rfl, rfl⟩), enx, ⟨b + 1, by omega, succ_of b, ?_⟩, ?_⟩
        · dsimp only
          rw [b3]
          by_cases e : b % 2 = 0
          · rw [decide_eq_true e, decide_eq_false (by omega)]; rfl
          · rw [decide_eq_false e, decide_eq_true (by omega)]; rfl
        · rw [gL_pL, if_pos ⟨rfl, rfl⟩, hz, hv]
      refine ⟨hs16, fun hp => go _ ?_, fun hp => go _ ?_⟩
      · have : b % 2 = 1 := by
          rcases (by omega : b % 2 = 0 ∨ b % 2 = 1) with h | h
          · rw [h] at hp; exact absurd rfl hp
          · exact h
        rw [b3, decide_eq_false (by omega)]; rfl
      · have : b % 2 = 0 := by
          rcases (by omega : b % 2 = 0 ∨ b % 2 = 1) with h | h
          · exact h
          · rw [h] at hp; exact absurd hp (by decide)
        rw [b3, decide_eq_true this]; rfl
  · obtain ⟨st, x, y⟩ := a
    obtain ⟨hF, e1, -, hv⟩ := hI
    dsimp only at e1 hF hv
    subst e1
    show w_X4_determinant_l75 Φ E (m + 1) st _ _ _ _ _ _ _
    have em : Int32.ofInt ((n : Int) - (n + 1 : Nat)) = -1 := by rw [show ((n : Int) - (n + 1 : Nat)) = -1 by omega]; rfl
    rw [em, w_X4_determinant_l75]
    dsimp only
    have e4 : 3 - n + (n + 1) = 4 := by omega
    rw [e4] at hv
    exact ⟨fun _ => h st hF hv, fun h => absurd (by decide) h⟩
def cbN (s : Nat) : Nat → Nat
  | 0 => 0
  | i + 1 => cbN s i + (if s.testBit i then 1 else 0)
theorem bt1 : ∀ s, s < 16 → ∀ j, j < 4 → (((Int32.ofNat s) >>> ((Int32.ofNat j) &&& 31)) &&& 1) = Int32.ofNat (if s.testBit j then 1 else 0) := by decide +kernel
theorem cb_pc : ∀ n, n < 4 → ∀ s, s < 16 → s < 2 ^ (n + 1) → cbN s (n + 1) = pcN s := by decide +kernel
theorem s_l39 {Φ : St → Int64 → Prop} {E : St → Int32 → Int32 → Int32 → Int32 → Int32 → Prop} {st : St} {n s : Nat} {x1 x2 x3 : Int32} (hn : 1 ≤ n ∧ n ≤ 3) (hs : s < 2 ^ (n + 1)) (h1 : 1 ≤ s) (e24 : sI st 175 24 = Int32.ofNat n) (h : E st x1 x2 x3 (Int32.ofNat s) (Int32.ofNat (pcN s - 1))) : w_X4_determinant_l39 Φ E gFU st x1 x2 x3 (Int32.ofNat s) (-1) 0 := by
  have hs16 : s < 16 := by rcases (by omega : n = 1 ∨ n = 2 ∨ n = 3) with rfl | rfl | rfl <;> omega
  refine loop_up (α := Int32 × Int32) (L := fun m a => w_X4_determinant_l39 Φ E m st x1 x2 x3 (Int32.ofNat s) a.1 a.2) (n + 1) (fun i a => a = (Int32.ofInt ((cbN s i : Nat) - 1), Int32.ofNat i)) (fun m i a hi hI k => ?_) (fun m a hI => ?_) gFU 0 (-1, 0) (by omega) (gFU_big (by omega)) rfl
  · subst hI
    show w_X4_determinant_l39 Φ E (m + 1) st _ _ _ _ _ _
    rw [w_X4_determinant_l39, e24, lt_of (by omega) (by omega)]
    refine ⟨fun h => absurd h (by omega), fun _ => ?_⟩
    dsimp only
    rw [bt1 s hs16 i (by omega)]
    rintro _ rfl
    refine k (_, _) ?_
    rw [succ_of]
    congr 1
    rw [cbN, ← oi_n, ← Int32.ofInt_add]
    congr 1
    omega
  · subst hI
    show w_X4_determinant_l39 Φ E (m + 1) st _ _ _ _ _ _
    rw [w_X4_determinant_l39, e24, lt_of (by omega) (by omega)]
    dsimp only
    have hp := (sbR s hs16).2 h1
    have e : Int32.ofInt ((cbN s (n + 1) : Nat) - 1) = Int32.ofNat (pcN s - 1) := by
      rw [cb_pc n (by omega) s hs16 hs, show ((pcN s : Nat) : Int) - 1 = ((pcN s - 1 : Nat) : Int) by omega]; rfl
    rw [e]
    exact ⟨fun _ => h, fun h => absurd (by omega) h⟩
def w193a (a j : Nat) : Prop := a = 193 ∧ j < 16
theorem pw1 : ∀ n, n < 4 → ((1 : Int32) <<< ((Int32.ofNat n + 1) &&& 31)) = Int32.ofNat (2 ^ (n + 1)) := by decide +kernel
theorem s_det {st0 : St} {T : Nat → Nat → Int64} {n g : Nat} {I J : Nat → Nat} {t : Bool} {p4 : Int32} {Φ : St → Int64 → Prop} (hN : 201 ≤ sN st0) (hM : Mk st0 T n I J) (hn : 1 ≤ n ∧ n ≤ 3) (hg : ∀ j, j ≤ n → (Int32.ofNat j = p4) = (j = g)) (h : ∀ st, Fr w193a 0 0 st0 st → Φ st (dtK (fun i j => entM T n I J t g i j) (n + 1) (2 ^ (n + 1) - 1))) : w_X4_determinant st0 (ib t) p4 Φ := by
  unfold w_X4_determinant
  rw [hM.1, pw1 n (by omega)]
  rintro _ rfl _ rfl
  have f0 : Fr w193a 0 0 st0 (putL st0 193 0 1) := Fr_L Fr_rf (Or.inl ⟨rfl, by omega⟩)
  have hp : 4 ≤ 2 ^ (n + 1) ∧ 2 ^ (n + 1) ≤ 16 := by rcases (by omega : n = 1 ∨ n = 2 ∨ n = 3) with rfl | rfl | rfl <;> omega
  refine loop_up (α := St × Int32) (L := fun m a => w_X4_determinant_l19 Φ (fun (s34 : St) (x3 : Int32) => w_X4_determinant_b158 Φ s34 x3) m a.1 (ib t) p4 (Int32.ofNat (2 ^ (n + 1))) a.2) (2 ^ (n + 1) - 1) (fun i a => a.2 = Int32.ofNat (i + 1) ∧ Fr w193a 0 0 st0 a.1 ∧ ∀ s, s ≤ i → sL a.1 193 s = dtK (fun i j => entM T n I J t g i j) (pcN s) s) (fun m i a hi hI k9 => ?_) (fun m a hI => ?_) gFU 0 (putL st0 193 0 1, 1) (by omega) (gFU_big (by omega)) ⟨rfl, f0, fun s hs => by
    have : s = 0 := by omega
    subst this; dsimp only; rw [gL_pL, if_pos ⟨rfl, rfl⟩]; rfl⟩
  · obtain ⟨st, x⟩ := a
    obtain ⟨e, hF, hv⟩ := hI
    dsimp only at e hF hv
    subst e
    show w_X4_determinant_l19 Φ _ (m + 1) st _ _ _ _
    rw [w_X4_determinant_l19, le_of (by omega) (by omega), vp_of (by omega), nn_of (by omega)]
    refine ⟨fun h => absurd h (by omega), fun _ => ⟨by omega, ?_⟩⟩
    rintro _ rfl
    have hF2 : Fr w193a 0 0 st0 (putL st 193 (i + 1) 0) := Fr_L hF (Or.inl ⟨rfl, by omega⟩)
    have hN2 : 201 ≤ sN (putL st 193 (i + 1) 0) := Nat.le_trans hN hF2.1
    have hM2 : Mk (putL st 193 (i + 1) 0) T n I J := Mk_fr hF2 hN (fun a j h hw => by unfold w193a at hw; omega) hM
    have hp1 := (sbR (i + 1) (by omega)).2 (by omega)
    have hp3 := cb_pc n (by omega) (i + 1) (by omega) (by omega)
    have hcb : ∀ k, cbN (i + 1) k ≤ k := fun k => by
      induction k with
      | zero => exact Nat.le_refl _
      | succ k ih => rw [cbN]; split <;> omega
    have hpn := hcb (n + 1)
    refine s_l39 hn (by omega) (by omega) hM2.1 ?_
    unfold w_X4_determinant_b66
    intro v13 e13
    rw [hM2.1] at e13
    subst e13
    refine s_l75 (g := g) hN2 hM2 hn (by omega) (by omega) hg (by rw [gL_pL, if_pos ⟨rfl, rfl⟩]) (fun st' f' v' => ?_)
    unfold w_X4_determinant_b152
    refine k9 (st', _) ?_
    dsimp only
    refine ⟨succ_of (i + 1), Fr_tr (x := 0) (y := 0) hF2 (Fr_mo f' (fun a j h => by unfold w193 at h; unfold w193a; omega) (Nat.le_refl _) (Nat.le_refl _)), fun s hs => ?_⟩
    by_cases e : s = i + 1
    · subst e
      rw [v']
      obtain ⟨p, hp9⟩ : ∃ p, pcN (i + 1) = p + 1 := ⟨pcN (i + 1) - 1, by omega⟩
      rw [hp9, dtK, Nat.add_sub_cancel]
      congr 1
      refine grS_cg 4 (by omega) (fun j hj hbit => ⟨rfl, ?_⟩)
      have hpos : 0 < 2 ^ j := Nat.two_pow_pos _
      have k3 := pcB (i + 1) (by omega) j hj hbit
      rw [gL_pL, if_neg (by omega), hv _ (by omega)]
      congr 1
      omega
    · rw [(fr_at f' (Or.inl (by omega)) (by unfold w193; omega)).2.1, gL_pL, if_neg (by omega)]
      exact hv s (by omega)
  · obtain ⟨st, x⟩ := a
    obtain ⟨e, hF, hv⟩ := hI
    dsimp only at e hF hv
    subst e
    show w_X4_determinant_l19 Φ _ (m + 1) st _ _ _ _
    have e1 : 2 ^ (n + 1) - 1 + 1 = 2 ^ (n + 1) := by omega
    rw [e1, w_X4_determinant_l19]
    refine ⟨fun _ => ?_, fun h => absurd (Int32.le_refl _) h⟩
    unfold w_X4_determinant_b158
    rw [sub1n (by omega) (by omega), vp_of (by omega), nn_of (by omega), hv _ (Nat.le_refl _)]
    have e2 : pcN (2 ^ (n + 1) - 1) = n + 1 := by rcases (by omega : n = 1 ∨ n = 2 ∨ n = 3) with rfl | rfl | rfl <;> decide
    rw [e2]
    exact ⟨by omega, h st hF⟩
