/-! PLAIN LAW, 47: where a draw stops -/
set_option maxRecDepth 100000
theorem sc_n (t : Nat → Nat → Int) {n : Nat} (hn : 1 ≤ n ∧ n ≤ 3) : xZ t n (n + 1) (n + 1) = smZ (fun k => if (n + k) % 2 = 0 then xZ t n n k else -xZ t n n k) n := by
  rcases (by omega : n = 1 ∨ n = 2 ∨ n = 3) with rfl | rfl | rfl
  · show xZ t 1 2 2 = 0 + -xZ t 1 1 0
    rw [xz_1_2_2, xz_1_1_0]; grind
  · show xZ t 2 3 3 = 0 + xZ t 2 2 0 + -xZ t 2 2 1
    rw [xz_2_3_3, xz_2_2_0, xz_2_2_1]; grind
  · show xZ t 3 4 4 = 0 + -xZ t 3 3 0 + xZ t 3 3 1 + -xZ t 3 3 2
    rw [xz_3_4_4, xz_3_3_0, xz_3_3_1, xz_3_3_2]; grind
theorem smZ_mul (c : Int) (F : Nat → Int) : ∀ n, smZ (fun k => c * F k) n = c * smZ F n
  | 0 => by rw [smZ, smZ]; grind
  | n + 1 => by rw [smZ, smZ, smZ_mul c F n]; grind
theorem smZ_cg {F G : Nat → Int} : ∀ n, (∀ k, k < n → F k = G k) → smZ F n = smZ G n
  | 0, _ => rfl
  | n + 1, h => by rw [smZ, smZ, smZ_cg n (fun k hk => h k (by omega)), h n (by omega)]
/-- the columns' weights are together the whole -/
theorem sumC {T : Nat → Nat → Int64} {n : Nat} {I J : Nat → Nat} (hn : 1 ≤ n ∧ n ≤ 3) (ht : ∀ i j, i < n → j < n → bd (tQ T I J i j)) : smL (kCw T n I J) n = kTot T n I J := by
  obtain ⟨-, k2, k3, k4, k5, k6⟩ := k_ok hn ht
  rw [smL_ok (F := cwZ (tQ T I J) n) k4 n, k2]
  congr 1
  unfold toZ
  rw [sc_n _ hn]
  have e : smZ (cwZ (tQ T I J) n) n = smZ (fun k => sgZ (tQ T I J) n * (if (n + k) % 2 = 0 then xZ (tQ T I J) n n k else -xZ (tQ T I J) n n k)) n := smZ_cg n (fun k hk => by
    unfold cwZ
    split
    · rfl
    · grind)
  rw [e, smZ_mul, Int.mul_comm]
/-- the first place where it holds, below n -/
theorem first_k {P : Nat → Prop} : ∀ n, (∃ k, k < n ∧ P k) → ∃ k, k < n ∧ P k ∧ ∀ j, j < k → ¬ P j
  | 0, ⟨k, hk, _⟩ => absurd hk (by omega)
  | n + 1, h => by
    by_cases e : ∃ j, j < n ∧ P j
    · obtain ⟨k, h1, h2, h3⟩ := first_k n e
      exact ⟨k, by omega, h2, h3⟩
    · obtain ⟨k, hk, hp⟩ := h
      exact ⟨k, hk, hp, fun j hj hpj => e ⟨j, by omega, hpj⟩⟩
/-- partial sums over all columns are those over the kernel's -/
theorem part_sum {f : Nat → Int64} {J : Nat → Nat} {W : Nat → Int64} {n N : Nat} (ha : Asc n J) (h1 : ∀ k, k < n → f (J k) = W k) (hz : ∀ c, c < N → (∀ k, k < n → J k ≠ c) → f c = 0) {k : Nat} (hk : k < n) (hJ : ∀ i, i < n → J i < N) : smL f (J k + 1) = smL W (k + 1) ∧ ∀ m, m ≤ J k → ∃ j, j ≤ k ∧ smL f m = smL W j := by
  have up : ∀ i j, i < j → j < n → J i < J j := fun i j hij hj => asc_lt ha j i hij hj
  have gen : ∀ j m, j ≤ n → m ≤ N → (∀ i, i < j → J i < m) → (∀ i, j ≤ i → i < n → m ≤ J i) → smL f m = smL W j := fun j m hj hm g1 g2 => by
    rw [sm_supp (K := J) j m (fun i hi => ha i (by omega)) g1 (fun c hc hne => hz c (by omega) (fun i hi e => ?_))]
    · exact smL_cg j (fun i hi => h1 i (by omega))
    · by_cases e2 : i < j
      · exact hne i e2 e
      · have := g2 i (by omega) hi; omega
  have hJk := hJ k hk
  refine ⟨gen (k + 1) (J k + 1) (by omega) (by omega) (fun i hi => ?_) (fun i h1 h2 => ?_), fun m hm => ?_⟩
  · by_cases e : i = k
    · rw [e]; omega
    · have := up i k (by omega) hk; omega
  · have := up k i (by omega) h2; omega
  · obtain ⟨j, j1, j2, j3⟩ := first_k (P := fun j => m ≤ J j) n ⟨k, hk, hm⟩
    refine ⟨j, ?_, gen j m (by omega) (by omega) (fun i hi => by have := j3 i hi; omega) (fun i h1 h2 => ?_)⟩
    · by_cases e : j ≤ k
      · exact e
      · exact absurd hm (j3 k (by omega))
    · by_cases e : i = j
      · rw [e]; exact j2
      · have := up j i (by omega) h2; omega
/-- the component stops at the k-th of its columns -/
theorem x_stop {Φ : St → Int32 → Prop} {Φw : St → Nat → Prop} {E1 E2 : St → Int32 → Prop} {st : St} {n k : Nat} {W : Nat → Int64} {d : Int64} (hn : n ≤ 3) (hk : k < n) (hW : ∀ i, i < n → sL st 132 i = W i) (h1 : ∀ j, j < k → 1000 * smL W (j + 1) ≤ d * sL st 0 16) (h2 : ¬ 1000 * smL W (k + 1) ≤ d * sL st 0 16) (h : E1 st (Int32.ofNat k)) : w_X0_approaches_l44 Φ Φw E1 E2 gFU st (Int32.ofNat n) d 0 0 := by
  refine loop_up (α := Int64 × Int32) (L := fun m a => w_X0_approaches_l44 Φ Φw E1 E2 m st (Int32.ofNat n) d a.1 a.2) k (fun i a => a = (smL W i, Int32.ofNat i)) (fun m i a hi hI k9 => ?_) (fun m a hI => ?_) gFU 0 (0, 0) (by omega) (gFU_big (by omega)) rfl
  · subst hI
    show w_X0_approaches_l44 Φ Φw E1 E2 (m + 1) st _ _ _ _
    dsimp only
    rw [w_X0_approaches_l44, le_of (by omega) (by omega), vp_of (by omega), nn_of (by omega), hW i (by omega)]
    refine ⟨fun h => absurd h (by omega), fun _ => ⟨by omega, ?_⟩⟩
    rintro _ rfl
    have hk9 := k9 (smL W (i + 1), Int32.ofNat i + 1)
    dsimp only at hk9
    exact ⟨fun _ => hk9 (by rw [succ_of]), fun hne => absurd (h1 i hi) hne⟩
  · subst hI
    show w_X0_approaches_l44 Φ Φw E1 E2 (m + 1) st _ _ _ _
    dsimp only
    rw [w_X0_approaches_l44, le_of (by omega) (by omega), vp_of (by omega), nn_of (by omega), hW k hk]
    refine ⟨fun h => absurd h (by omega), fun _ => ⟨by omega, ?_⟩⟩
    rintro _ rfl
    exact ⟨fun hle => absurd hle h2, fun _ => h⟩
/-- the reference stops at the same column -/
theorem m_stop {Φ : St → Int32 → Prop} {E1 : St → Int32 → Prop} {E2 : St → Prop} {st : St} {N q : Nat} {d : Int64} (hN : N ≤ 3) (hq : q < N) (e3 : sI st 177 3 = Int32.ofNat N) (h1 : ∀ j, j < q → smL (fun c => sL st 192 c) (j + 1) * 1000 ≤ d * sL st 175 29) (h2 : ¬ smL (fun c => sL st 192 c) (q + 1) * 1000 ≤ d * sL st 175 29) (h : E1 st (Int32.ofNat q)) : w_X4_answer_l169 Φ E1 E2 gFU st d 0 0 := by
  refine loop_up (α := Int64 × Int32) (L := fun m a => w_X4_answer_l169 Φ E1 E2 m st d a.1 a.2) q (fun i a => a = (smL (fun c => sL st 192 c) i, Int32.ofNat i)) (fun m i a hi hI k9 => ?_) (fun m a hI => ?_) gFU 0 (0, 0) (by omega) (gFU_big (by omega)) rfl
  · subst hI
    show w_X4_answer_l169 Φ E1 E2 (m + 1) st _ _ _
    dsimp only
    rw [w_X4_answer_l169, e3, le_of (by omega) (by omega), vp_of (by omega), nn_of (by omega)]
    refine ⟨fun h => absurd h (by omega), fun _ => ⟨by omega, ?_⟩⟩
    rintro _ rfl
    have hk9 := k9 (smL (fun c => sL st 192 c) (i + 1), Int32.ofNat i + 1)
    dsimp only at hk9
    exact ⟨fun _ => hk9 (by rw [succ_of]), fun hne => absurd (h1 i hi) hne⟩
  · subst hI
    show w_X4_answer_l169 Φ E1 E2 (m + 1) st _ _ _
    dsimp only
    rw [w_X4_answer_l169, e3, le_of (by omega) (by omega), vp_of (by omega), nn_of (by omega)]
    refine ⟨fun h => absurd h (by omega), fun _ => ⟨by omega, ?_⟩⟩
    rintro _ rfl
    exact ⟨fun hle => absurd hle h2, fun _ => h⟩
/-- the draw is between 0 and 999 -/
def drw (z : Int32) : Int64 := (((z.toUInt32 >>> ((8 : Int32).toUInt32 &&& Int32.toUInt32 31)).toInt32) - ((z.toUInt32 >>> ((8 : Int32).toUInt32 &&& Int32.toUInt32 31)).toInt32) / 1000 * 1000).toInt64
theorem drw_b (z : Int32) : 0 ≤ (drw z).toInt ∧ (drw z).toInt ≤ 999 := by
  unfold drw
  rw [Int32.toInt_toInt64]
  have hu : ((z.toUInt32 >>> ((8 : Int32).toUInt32 &&& Int32.toUInt32 31)).toInt32).toInt = ((z.toUInt32.toNat / 256 : Nat) : Int) := by
    have h8 : ((8 : Int32).toUInt32 &&& Int32.toUInt32 31).toNat % 32 = 8 := by decide
    have hn : (z.toUInt32 >>> ((8 : Int32).toUInt32 &&& Int32.toUInt32 31)).toNat = z.toUInt32.toNat / 256 := by
      rw [UInt32.toNat_shiftRight, h8, Nat.shiftRight_eq_div_pow]
    have hl := z.toUInt32.toNat_lt
    show (z.toUInt32 >>> ((8 : Int32).toUInt32 &&& Int32.toUInt32 31)).toBitVec.toInt = _
    rw [BitVec.toInt_eq_toNat_cond]
    have e : (z.toUInt32 >>> ((8 : Int32).toUInt32 &&& Int32.toUInt32 31)).toBitVec.toNat = z.toUInt32.toNat / 256 := hn
    rw [e, if_pos (by omega)]
  have hl := z.toUInt32.toNat_lt
  generalize (z.toUInt32 >>> ((8 : Int32).toUInt32 &&& Int32.toUInt32 31)).toInt32 = x at hu
  have h1000 : (1000 : Int32).toInt = 1000 := by decide
  have hd : (x / 1000).toInt = x.toInt / 1000 := by
    rw [Int32.toInt_div, h1000, Int.tdiv_eq_ediv_of_nonneg (by omega), Int.bmod_eq_of_le (by omega) (by omega)]
  have hm : (x / 1000 * 1000).toInt = x.toInt / 1000 * 1000 := by
    rw [Int32.toInt_mul, hd, h1000, Int.bmod_eq_of_le (by omega) (by omega)]
  rw [Int32.toInt_sub, hm, Int.bmod_eq_of_le (by omega) (by omega)]
  omega
/-- kernel and stop, for a table and a draw -/
theorem stop_ex {T : Nat → Nat → Int64} {h w : Nat} (hh : 1 ≤ h ∧ h ≤ 27) (hw : 1 ≤ w ∧ w ≤ 3) (hb : ∀ r c, r < h → c < w → bd (T r c).toInt) (z : Int32) : ∃ n a c k, fsN T h w 4 1 = some (n, a, c) ∧ (1 ≤ n ∧ n ≤ 3) ∧ okE n a ∧ okE n c ∧ setN a < 2 ^ h ∧ setN c < 2 ^ w ∧ 1 ≤ (kTot T n (gD a) (gD c)).toInt ∧ k < n ∧ (∀ j, j < k → 1000 * smL (kCw T n (gD a) (gD c)) (j + 1) ≤ drw z * kTot T n (gD a) (gD c)) ∧ (¬ 1000 * smL (kCw T n (gD a) (gD c)) (k + 1) ≤ drw z * kTot T n (gD a) (gD c)) ∧ 0 ≤ drw z * kTot T n (gD a) (gD c) := by
  cases hf : fsN T h w 4 1 with
  | none => exact absurd hf (found hh hw hb)
  | some t =>
    obtain ⟨n, a, c⟩ := t
    obtain ⟨g1, g2, g3, g4, g5, g6⟩ := fsN_ok hw.2 4 1 n a c (by omega) hf
    have hI := set_lt g2 g4
    have hJ := set_lt g3 g5
    obtain ⟨t1, t2, t3, t4⟩ := kT_pos g1 hb hI hJ g6
    have hs := sumC (T := T) (I := gD a) (J := gD c) g1 (fun i j hi hj => hb _ _ (hI i hi) (hJ j hj))
    obtain ⟨d1, d2⟩ := drw_b z
    generalize hd : drw z = d at *
    generalize hk : kTot T n (gD a) (gD c) = t at *
    have hp1 : (d * t).toInt = d.toInt * t.toInt ∧ 0 ≤ d.toInt * t.toInt ∧ d.toInt * t.toInt ≤ 999 * t.toInt := by
      have k1 : 0 ≤ d.toInt * t.toInt := Int.mul_nonneg d1 (by omega)
      have k2 : d.toInt * t.toInt ≤ 999 * t.toInt := Int.mul_le_mul_of_nonneg_right d2 (by omega)
      refine ⟨?_, k1, k2⟩
      rw [tmul]; apply bm_fit; unfold fit; omega
    have hp2 : (1000 * t).toInt = 1000 * t.toInt := by
      rw [tmul]
      show ((1000 : Int) * t.toInt).bmod _ = _
      apply bm_fit; unfold fit; omega
    have hend : ¬ 1000 * smL (kCw T n (gD a) (gD c)) (n - 1 + 1) ≤ d * t := by
      rw [show n - 1 + 1 = n by omega, hs, le64, hp2, hp1.1]; omega
    obtain ⟨k, k1, k2, k3⟩ := first_k (P := fun k => ¬ 1000 * smL (kCw T n (gD a) (gD c)) (k + 1) ≤ d * t) n ⟨n - 1, by omega, hend⟩
    refine ⟨n, a, c, k, rfl, g1, g2, g3, g4, g5, by rw [hk]; exact t1, k1, fun j hj => ?_, by rw [hk]; exact k2, by rw [hk, ge064, hp1.1]; exact hp1.2.1⟩
    rw [hk]
    exact Classical.not_not.mp (k3 j hj)
