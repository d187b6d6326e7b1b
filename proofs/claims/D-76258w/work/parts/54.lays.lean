/-! PLAIN LAW, 15: lays -/
set_option maxRecDepth 100000
theorem sub1n {m : Nat} (h : 1 ≤ m) (hm : m < 2 ^ 31) : Int32.ofNat m - 1 = Int32.ofNat (m - 1) := sub_of (n := 1) h hm
theorem of_inj {m n : Nat} (hm : m < 2 ^ 31) (hn : n < 2 ^ 31) (h : Int32.ofNat m = Int32.ofNat n) : m = n := by
  have h2 := congrArg Int32.toNatClampNeg h
  rwa [nn_of hm, nn_of hn] at h2
theorem nz_of {n : Nat} (h1 : 1 ≤ n) (h2 : n < 2 ^ 31) : Int32.ofNat n ≠ 0 := fun h => by
  have := of_inj h2 (by omega) (h.trans (show (0 : Int32) = Int32.ofNat 0 from rfl)); omega
theorem lost_iff {st : St} {k i : Nat} (hS : Sk st k) (hi : i < 2 ^ 31) : lostB st k (Int32.ofNat i) = false ↔ sI st 186 k ≠ 0 ∧ ∃ n, n ≤ 60 ∧ sI st 187 k = Int32.ofNat n ∧ i < n := by
  unfold lostB
  rcases hS with ⟨a1, a2, a3⟩ | ⟨v, n, a1, a2, a3, a4, a5, a6, a7, a8⟩
  · rw [a2]; simp
  · have hb : sI st 186 k ≠ 0 := by rcases a8 with ⟨-, g, -⟩ | ⟨-, g, -⟩ <;> rw [g] <;> decide
    have hv := inB_vp (p := Int32.ofNat i) (n := n) (by omega)
    rw [vp_of hi] at hv
    rw [a7]
    simp only [hb, decide_false, Bool.false_or, ne_eq, not_false_eq_true, true_and, Bool.not_eq_false']
    rw [hv]
    constructor
    · intro h; exact ⟨n, a5, rfl, h⟩
    · rintro ⟨m, m1, m2, m3⟩
      have := of_inj (by omega) (by omega) m2; omega
theorem lost_mono {st : St} {k i j : Nat} (hS : Sk st k) (hj : j < 2 ^ 31) (hi : i ≤ j) (h : lostB st k (Int32.ofNat j) = false) : lostB st k (Int32.ofNat i) = false := by
  obtain ⟨h1, n, h2, h3, h4⟩ := (lost_iff hS hj).mp h
  exact (lost_iff hS (by omega)).mpr ⟨h1, n, h2, h3, by omega⟩
def fewB (st : St) (k : Nat) (p : Int32) : Bool := decide (sI st 186 k = 0) || !(decide (p ≤ sI st 187 k))
theorem pe_X4_hasFew {st : St} {k : Nat} {p : Int32} {Φ : Int32 → Prop} (hk : k < 5) : w_X4_hasFew st (Int32.ofNat k) p Φ = Φ (ib (fewB st k p)) := by
  unfold w_X4_hasFew w_X4_hasFew_b19 fewB
  rw [vp_of (by omega), nn_of (by omega)]
  by_cases h : sI st 186 k = 0 <;> by_cases h2 : p ≤ sI st 187 k <;> simp [h, h2, ib, hk]
theorem few_lost {st : St} {k m : Nat} (hS : Sk st k) (h1 : 1 ≤ m) (hm : m < 2 ^ 31) : fewB st k (Int32.ofNat m) = lostB st k (Int32.ofNat (m - 1)) := by
  have hl := lost_iff (i := m - 1) hS (by omega)
  have hf : fewB st k (Int32.ofNat m) = false ↔ sI st 186 k ≠ 0 ∧ ∃ n, n ≤ 60 ∧ sI st 187 k = Int32.ofNat n ∧ m - 1 < n := by
    unfold fewB
    rcases hS with ⟨a1, a2, a3⟩ | ⟨v, n, a1, a2, a3, a4, a5, a6, a7, a8⟩
    · rw [a2]; simp
    · have hb : sI st 186 k ≠ 0 := by rcases a8 with ⟨-, g, -⟩ | ⟨-, g, -⟩ <;> rw [g] <;> decide
      rw [a7]
      simp only [hb, decide_false, Bool.false_or, ne_eq, not_false_eq_true, true_and, Bool.not_eq_false', decide_eq_true_eq]
      rw [le_of hm (by omega)]
      constructor
      · intro h; exact ⟨n, a5, rfl, by omega⟩
      · rintro ⟨m, m1, m2, m3⟩
        have := of_inj (by omega) (by omega) m2; omega
  cases e1 : fewB st k (Int32.ofNat m) <;> cases e2 : lostB st k (Int32.ofNat (m - 1))
  · rfl
  · have := hl.mpr (hf.mp e1); rw [e2] at this; cases this
  · have := hf.mpr (hl.mp e2); rw [e1] at this; cases this
  · rfl
theorem s_getN {st : St} {k i : Nat} {Φ : St → Int64 → Prop} {Φw : St → Nat → Prop} (hS : Sk st k) (hi : i < 2 ^ 31) (hN : sN st + 4 ≤ gCAP) (hs : sS st + 229 ≤ gCAPS) (h1 : lostB st k (Int32.ofNat i) = false → i < 60 → Φ st (sL st 185 (60 * k + i))) (h2 : lostB st k (Int32.ofNat i) = true → ∀ st' e, Fr noW 4 229 st st' → sN st ≤ e → sI st' e 6 = 8 → Φw st' e) : w_X3_get st (170 + k) (Int32.ofNat i) Φ Φw :=
  s_get hS hN hs (fun hl j hj hj2 => by have := of_inj hi (by omega) hj; subst this; exact h1 hl hj2) h2
theorem x_lays_1 {st : St} {Φ : St → Int32 → Prop} {E1 : St → Nat → Prop} {E2 : St → Int32 → Int32 → Int32 → Prop} {p1 : Int32} {k m : Nat} (hk : k < 5) (hS : Sk st k) (hm : m ≤ 9) (hl : ∀ i, i < m → lostB st k (Int32.ofNat i) = false) (hN : sN st + 4 ≤ gCAP) (hs : sS st + 229 ≤ gCAPS) (h1 : (∀ i, i < m → inB (sL st 185 (60 * k + i)) (-20) 20 = true) → E2 st p1 (Int32.ofNat k) (Int32.ofNat m)) (h2 : (∃ i, i < m ∧ inB (sL st 185 (60 * k + i)) (-20) 20 = false) → ∀ st' e, Fr noW 1 7 st st' → sN st ≤ e → sI st' e 6 = 5 → E1 st' e) : w_X0_lays_l55 Φ E1 E2 gFU st p1 (Int32.ofNat k) (Int32.ofNat m) 0 := by
  refine loop_up (α := Int32) (L := fun n x => w_X0_lays_l55 Φ E1 E2 n st p1 (Int32.ofNat k) (Int32.ofNat m) x) m (fun i x => x = Int32.ofNat i ∧ ∀ j, j < i → inB (sL st 185 (60 * k + j)) (-20) 20 = true) (fun n i x hi hI k9 => ?_) (fun n x hI => ?_) gFU 0 0 (by omega) (gFU_big (by omega)) ⟨rfl, fun j hj => absurd hj (by omega)⟩
  · obtain ⟨rfl, hg⟩ := hI
    show w_X0_lays_l55 Φ E1 E2 (n + 1) st _ _ _ _
    rw [w_X0_lays_l55, le_of (by omega) (by omega), vp_of (by omega), nn_of (by omega)]
    refine ⟨fun h => absurd h (by omega), fun _ => ⟨hk, s_getN hS (by omega) hN hs (fun _ _ => ?_) (fun h => by rw [hl i hi] at h; cases h)⟩⟩
    rw [pe_X0_in]
    refine s_need (fun hc => ?_) (fun hc => ⟨by omega, by omega, fun st' f e => h2 ⟨i, hi, hc⟩ st' _ f (Nat.le_refl _) e⟩)
    refine k9 _ ⟨succ_of i, fun j hj => ?_⟩
    by_cases e : j = i
    · rw [e]; exact hc
    · exact hg j (by omega)
  · obtain ⟨rfl, hg⟩ := hI
    show w_X0_lays_l55 Φ E1 E2 (n + 1) st _ _ _ _
    rw [w_X0_lays_l55]
    exact ⟨fun _ => h1 hg, fun h => absurd (Int32.le_refl _) h⟩
theorem m_lays_1 {st : St} {Φ : St → Int32 → Prop} {E1 : St → Prop} {E2 : St → Int32 → Int32 → Int32 → Prop} {p1 : Int32} {k m : Nat} (hk : k < 5) (hm : m ≤ 9) (h1 : (∀ i, i < m → inB (sL st 185 (60 * k + i)) (-20) 20 = true) → E2 st p1 (Int32.ofNat k) (Int32.ofNat m)) (h2 : (∃ i, i < m ∧ inB (sL st 185 (60 * k + i)) (-20) 20 = false) → E1 st) : w_X4_lays_l58 Φ E1 E2 gFU st p1 (Int32.ofNat k) (Int32.ofNat m) 0 := by
  refine loop_up (α := Int32) (L := fun n x => w_X4_lays_l58 Φ E1 E2 n st p1 (Int32.ofNat k) (Int32.ofNat m) x) m (fun i x => x = Int32.ofNat i ∧ ∀ j, j < i → inB (sL st 185 (60 * k + j)) (-20) 20 = true) (fun n i x hi hI k9 => ?_) (fun n x hI => ?_) gFU 0 0 (by omega) (gFU_big (by omega)) ⟨rfl, fun j hj => absurd hj (by omega)⟩
  · obtain ⟨rfl, hg⟩ := hI
    show w_X4_lays_l58 Φ E1 E2 (n + 1) st _ _ _ _
    rw [w_X4_lays_l58, le_of (by omega) (by omega), pe_X4_numberAt hk (by omega), pe_X4_isIn, ib_nz, ib_z]
    refine ⟨fun h => absurd h (by omega), fun _ => ⟨fun hc => ?_, fun hc => h2 ⟨i, hi, hc⟩⟩⟩
    refine k9 _ ⟨succ_of i, fun j hj => ?_⟩
    by_cases e : j = i
    · rw [e]; exact hc
    · exact hg j (by omega)
  · obtain ⟨rfl, hg⟩ := hI
    show w_X4_lays_l58 Φ E1 E2 (n + 1) st _ _ _ _
    rw [w_X4_lays_l58]
    exact ⟨fun _ => h1 hg, fun h => absurd (Int32.le_refl _) h⟩
theorem dv_of : ∀ i, i < 9 → ∀ N, N < 4 → 1 ≤ N → Int32.ofNat i / Int32.ofNat N = Int32.ofNat (i / N) ∧ Int32.ofNat i - Int32.ofNat (i / N) * Int32.ofNat N = Int32.ofNat (i % N) := by decide +kernel
/-- how many of the cells change -/
def cnC (d : Nat → Bool) : Nat → Int32
  | 0 => 0
  | i + 1 => cnC d i + (if d i then 0 else 1)
theorem cnC_cg {d e : Nat → Bool} : ∀ m, (∀ i, i < m → d i = e i) → cnC d m = cnC e m
  | 0, _ => rfl
  | m + 1, h => by rw [cnC, cnC, cnC_cg m (fun i hi => h i (by omega)), h m (by omega)]
def wLx (g a j : Nat) : Prop := ∃ r, r < 3 ∧ a = 2 + (3 + 4 * g + r) ∧ j < 3
theorem x_lays_2 {st : St} {Φ : St → Int32 → Prop} {E1 : St → Nat → Prop} {E2 : St → Int32 → Prop} {g k m N : Nat} (hN1 : 201 ≤ sN st) (hg : g < 3) (hk : k < 5) (hS : Sx st) (hn : 1 ≤ N ∧ N ≤ 3) (hm : m ≤ 3 * N) (h3 : sI st 2 3 = Int32.ofNat N) (hl : ∀ i, i < m → lostB st k (Int32.ofNat i) = false) (hN : sN st + 4 ≤ gCAP) (hs : sS st + 229 ≤ gCAPS) (h : ∀ s, Fr (wLx g) 0 0 st s → (∀ r c, r < 3 → c < 3 → sI s (2 + (3 + 4 * g + r)) c = if c < N ∧ r * N + c < m then (sL st 185 (60 * k + (r * N + c))).toInt32 else sI st (2 + (3 + 4 * g + r)) c) → E2 s (cnC (fun i => decide (sI st (2 + (3 + 4 * g + i / N)) (i % N) = (sL st 185 (60 * k + i)).toInt32)) m)) : w_X0_lays_l97 Φ E2 E1 gFU st (Int32.ofNat g) (Int32.ofNat k) (Int32.ofNat m) 0 0 := by
  refine loop_up (α := St × Int32 × Int32) (L := fun n a => w_X0_lays_l97 Φ E2 E1 n a.1 (Int32.ofNat g) (Int32.ofNat k) (Int32.ofNat m) a.2.1 a.2.2) m (fun i a => a.2.2 = Int32.ofNat i ∧ a.2.1 = cnC (fun i => decide (sI st (2 + (3 + 4 * g + i / N)) (i % N) = (sL st 185 (60 * k + i)).toInt32)) i ∧ Fr (wLx g) 0 0 st a.1 ∧ ∀ r c, r < 3 → c < 3 → sI a.1 (2 + (3 + 4 * g + r)) c = if c < N ∧ r * N + c < i then (sL st 185 (60 * k + (r * N + c))).toInt32 else sI st (2 + (3 + 4 * g + r)) c) (fun n i a hi hI k9 => ?_) (fun n a hI => ?_) gFU 0 (st, 0, 0) (by omega) (gFU_big (by omega)) ⟨rfl, rfl, Fr_rf, fun r c _ _ => by rw [if_neg (by omega)]⟩
  · obtain ⟨s, x, y⟩ := a
    obtain ⟨e1, e2, hF, hv⟩ := hI
    dsimp only at e1 e2 hF hv
    subst e1 e2
    show w_X0_lays_l97 Φ E2 E1 (n + 1) s _ _ _ _ _
    have hSs : Sk s k := Sk_q hF hN1 (fun a j h hw => by obtain ⟨r, hr, q1, q2⟩ := hw; unfold RSx at h; omega) hS hk
    have s5 : ∀ j, sL s 185 j = sL st 185 j := fun j => (fr_at hF (Or.inl (by omega)) (fun hw => by obtain ⟨r, hr, q1, q2⟩ := hw; omega)).2.1
    have hls : lostB s k (Int32.ofNat i) = false := by
      have h0 := hl i hi
      unfold lostB at h0 ⊢
      rw [(fr_at hF (a := 186) (j := k) (Or.inl (by omega)) (fun hw => by obtain ⟨r, hr, q1, q2⟩ := hw; omega)).1, (fr_at hF (a := 187) (j := k) (Or.inl (by omega)) (fun hw => by obtain ⟨r, hr, q1, q2⟩ := hw; omega)).1]; exact h0
    have hs3 : sI s 2 3 = Int32.ofNat N := (fr_at hF (Or.inl (by omega)) (fun hw => by obtain ⟨r, hr, q1, q2⟩ := hw; omega)).1.trans h3
    obtain ⟨d1, d2⟩ := dv_of i (by omega) N (by omega) hn.1
    have hdv : i / N < 3 := by rcases (by omega : N = 1 ∨ N = 2 ∨ N = 3) with rfl | rfl | rfl <;> omega
    have hmd : i % N < 3 := by have := Nat.mod_lt i (show N > 0 by omega); omega
    rw [w_X0_lays_l97, le_of (by omega) (by omega), vp_of (by omega), nn_of (by omega)]
    refine ⟨fun h => absurd h (by omega), fun _ => ⟨hk, s_getN hSs (by omega) (by have := hF.2.1; omega) (by have := hF.2.2.1; omega) (fun _ _ => ?_) (fun h => by rw [hls] at h; cases h)⟩⟩
    rintro _ rfl
    rw [hs3, d1, d2, vp_of (by omega), vp_of (by omega), vp_of (by omega), nn_of (by omega), nn_of (by omega), nn_of (by omega), s5]
    have hcell : sI s (2 + (3 + 4 * g + i / N)) (i % N) = sI st (2 + (3 + 4 * g + i / N)) (i % N) := by
      rw [hv _ _ hdv hmd, if_neg]
      rintro ⟨q1, q2⟩
      have := Nat.div_add_mod i N
      rw [Nat.mul_comm] at this; omega
    rw [hcell]
    have leaf : ∀ z, z = (if decide (sI st (2 + (3 + 4 * g + i / N)) (i % N) = (sL st 185 (60 * k + i)).toInt32) then (0 : Int32) else 1) → w_X0_lays_b164 Φ (w_X0_lays_l97 Φ E2 E1 n) s (Int32.ofNat g) (Int32.ofNat k) (Int32.ofNat m) (Int32.ofNat i) (sL st 185 (60 * k + i)).toInt32 (2 + (3 + 4 * g + i / N)) z (cnC (fun i => decide (sI st (2 + (3 + 4 * g + i / N)) (i % N) = (sL st 185 (60 * k + i)).toInt32)) i) := by
      rintro _ rfl
      unfold w_X0_lays_b164
      rintro _ rfl
      rw [hs3, d1, d2, vp_of (by omega), nn_of (by omega)]
      refine ⟨nz_of hn.1 (by omega), hmd, ?_⟩
      intro s9 hs9
      refine k9 (s9, _, _) ?_
      dsimp only
      subst hs9
      refine ⟨succ_of i, rfl, Fr_I hF (Or.inl ⟨i / N, hdv, rfl, hmd⟩), fun r c hr hc => ?_⟩
      rw [gI_pI, hv r c hr hc]
      rcases (by omega : N = 1 ∨ N = 2 ∨ N = 3) with rfl | rfl | rfl
      · by_cases e : r = i ∧ c = 0
        · obtain ⟨e1, e2⟩ := e
          have e3 : r * 1 + c = i := by omega
          rw [if_pos (by omega), if_pos (by omega), e3]
        · rw [if_neg (by omega)]
          by_cases e4 : c < 1 ∧ r * 1 + c < i
          · rw [if_pos e4, if_pos (by omega)]
          · rw [if_neg e4, if_neg (by omega)]
      · by_cases e : r = i / 2 ∧ c = i % 2
        · obtain ⟨e1, e2⟩ := e
          have e3 : r * 2 + c = i := by omega
          rw [if_pos (by omega), if_pos (by omega), e3]
        · rw [if_neg (by omega)]
          by_cases e4 : c < 2 ∧ r * 2 + c < i
          · rw [if_pos e4, if_pos (by omega)]
          · rw [if_neg e4, if_neg (by omega)]
      · by_cases e : r = i / 3 ∧ c = i % 3
        · obtain ⟨e1, e2⟩ := e
          have e3 : r * 3 + c = i := by omega
          rw [if_pos (by omega), if_pos (by omega), e3]
        · rw [if_neg (by omega)]
          by_cases e4 : c < 3 ∧ r * 3 + c < i
          · rw [if_pos e4, if_pos (by omega)]
          · rw [if_neg e4, if_neg (by omega)]
    exact ⟨hg, nz_of hn.1 (by omega), hdv, hmd, fun h => leaf 1 (by rw [decide_eq_false h]; rfl), fun h => leaf 0 (by rw [decide_eq_true h]; rfl)⟩
  · obtain ⟨s, x, y⟩ := a
    obtain ⟨e1, e2, hF, hv⟩ := hI
    dsimp only at e1 e2 hF hv
    subst e1 e2
    show w_X0_lays_l97 Φ E2 E1 (n + 1) s _ _ _ _ _
    rw [w_X0_lays_l97]
    exact ⟨fun _ => h s hF hv, fun h => absurd (Int32.le_refl _) h⟩
def wLm (g a j : Nat) : Prop := a = 177 ∧ 4 + 9 * g ≤ j ∧ j < 13 + 9 * g
theorem m_lays_2 {st : St} {Φ : St → Int32 → Prop} {E2 : St → Int32 → Prop} {g k m N : Nat} (hN1 : 201 ≤ sN st) (hg : g < 3) (hk : k < 5) (hn : 1 ≤ N ∧ N ≤ 3) (hm : m ≤ 3 * N) (h3 : sI st 177 3 = Int32.ofNat N) (h : ∀ s, Fr (wLm g) 0 0 st s → (∀ r c, r < 3 → c < 3 → sI s 177 (4 + 9 * g + 3 * r + c) = if c < N ∧ r * N + c < m then (sL st 185 (60 * k + (r * N + c))).toInt32 else sI st 177 (4 + 9 * g + 3 * r + c)) → E2 s (cnC (fun i => decide ((sI st 177 (4 + 9 * g + 3 * (i / N) + i % N)).toInt64 = sL st 185 (60 * k + i))) m)) : w_X4_lays_l101 Φ E2 gFU st (Int32.ofNat g) (Int32.ofNat k) (Int32.ofNat m) 0 0 := by
  refine loop_up (α := St × Int32 × Int32) (L := fun n a => w_X4_lays_l101 Φ E2 n a.1 (Int32.ofNat g) (Int32.ofNat k) (Int32.ofNat m) a.2.1 a.2.2) m (fun i a => a.2.2 = Int32.ofNat i ∧ a.2.1 = cnC (fun i => decide ((sI st 177 (4 + 9 * g + 3 * (i / N) + i % N)).toInt64 = sL st 185 (60 * k + i))) i ∧ Fr (wLm g) 0 0 st a.1 ∧ ∀ r c, r < 3 → c < 3 → sI a.1 177 (4 + 9 * g + 3 * r + c) = if c < N ∧ r * N + c < i then (sL st 185 (60 * k + (r * N + c))).toInt32 else sI st 177 (4 + 9 * g + 3 * r + c)) (fun n i a hi hI k9 => ?_) (fun n a hI => ?_) gFU 0 (st, 0, 0) (by omega) (gFU_big (by omega)) ⟨rfl, rfl, Fr_rf, fun r c _ _ => by rw [if_neg (by omega)]⟩
  · obtain ⟨s, x, y⟩ := a
    obtain ⟨e1, e2, hF, hv⟩ := hI
    dsimp only at e1 e2 hF hv
    subst e1 e2
    show w_X4_lays_l101 Φ E2 (n + 1) s _ _ _ _ _
    have s5 : ∀ j, sL s 185 j = sL st 185 j := fun j => (fr_at hF (Or.inl (by omega)) (fun hw => by unfold wLm at hw; omega)).2.1
    have hs3 : sI s 177 3 = Int32.ofNat N := (fr_at hF (Or.inl (by omega)) (fun hw => by unfold wLm at hw; omega)).1.trans h3
    obtain ⟨d1, d2⟩ := dv_of i (by omega) N (by omega) hn.1
    have hdv : i / N < 3 := by rcases (by omega : N = 1 ∨ N = 2 ∨ N = 3) with rfl | rfl | rfl <;> omega
    have hmd : i % N < 3 := by have := Nat.mod_lt i (show N > 0 by omega); omega
    rw [w_X4_lays_l101, le_of (by omega) (by omega), hs3, d1, d2, pe_X4_place hg hdv hmd, vp_of (by omega), nn_of (by omega), pe_X4_numberAt hk (by omega), s5]
    have hcell : sI s 177 (4 + 9 * g + 3 * (i / N) + i % N) = sI st 177 (4 + 9 * g + 3 * (i / N) + i % N) := by
      rw [hv _ _ hdv hmd, if_neg]
      rintro ⟨q1, q2⟩
      have := Nat.div_add_mod i N
      rw [Nat.mul_comm] at this; omega
    rw [hcell]
    have leaf : ∀ z, z = (if decide ((sI st 177 (4 + 9 * g + 3 * (i / N) + i % N)).toInt64 = sL st 185 (60 * k + i)) then (0 : Int32) else 1) → w_X4_lays_b157 Φ (w_X4_lays_l101 Φ E2 n) s (Int32.ofNat g) (Int32.ofNat k) (Int32.ofNat m) (Int32.ofNat i) (Int32.ofNat (4 + 9 * g + 3 * (i / N) + i % N)) z (cnC (fun i => decide ((sI st 177 (4 + 9 * g + 3 * (i / N) + i % N)).toInt64 = sL st 185 (60 * k + i))) i) := by
      rintro _ rfl
      unfold w_X4_lays_b157
      rintro _ rfl
      rw [pe_X4_numberAt hk (by omega), vp_of (by omega), nn_of (by omega), s5]
      refine ⟨by omega, ?_⟩
      intro s9 hs9
      refine k9 (s9, _, _) ?_
      dsimp only
      subst hs9
      refine ⟨succ_of i, rfl, Fr_I hF (Or.inl ⟨rfl, by omega, by omega⟩), fun r c hr hc => ?_⟩
      rw [gI_pI, hv r c hr hc]
      rcases (by omega : N = 1 ∨ N = 2 ∨ N = 3) with rfl | rfl | rfl
      · by_cases e : r = i ∧ c = 0
        · obtain ⟨e1, e2⟩ := e
          have e3 : r * 1 + c = i := by omega
          rw [if_pos (by omega), if_pos (by omega), e3]
        · rw [if_neg (by omega)]
          by_cases e4 : c < 1 ∧ r * 1 + c < i
          · rw [if_pos e4, if_pos (by omega)]
          · rw [if_neg e4, if_neg (by omega)]
      · by_cases e : r = i / 2 ∧ c = i % 2
        · obtain ⟨e1, e2⟩ := e
          have e3 : r * 2 + c = i := by omega
          rw [if_pos (by omega), if_pos (by omega), e3]
        · rw [if_neg (by omega)]
          by_cases e4 : c < 2 ∧ r * 2 + c < i
          · rw [if_pos e4, if_pos (by omega)]
          · rw [if_neg e4, if_neg (by omega)]
      · by_cases e : r = i / 3 ∧ c = i % 3
        · obtain ⟨e1, e2⟩ := e
          have e3 : r * 3 + c = i := by omega
          rw [if_pos (by omega), if_pos (by omega), e3]
        · rw [if_neg (by omega)]
          by_cases e4 : c < 3 ∧ r * 3 + c < i
          · rw [if_pos e4, if_pos (by omega)]
          · rw [if_neg e4, if_neg (by omega)]
    exact ⟨fun h => absurd h (by omega), fun _ => ⟨nz_of hn.1 (by omega), by omega, fun h => leaf 0 (by rw [decide_eq_true h]; rfl), fun h => leaf 1 (by rw [decide_eq_false h]; rfl)⟩⟩
  · obtain ⟨s, x, y⟩ := a
    obtain ⟨e1, e2, hF, hv⟩ := hI
    dsimp only at e1 e2 hF hv
    subst e1 e2
    show w_X4_lays_l101 Φ E2 (n + 1) s _ _ _ _ _
    rw [w_X4_lays_l101]
    exact ⟨fun _ => h s hF hv, fun h => absurd (Int32.le_refl _) h⟩
theorem in20 {l : Int64} (h : inB l (-20) 20 = true) : l.toInt32.toInt64 = l ∧ (-20) ≤ l.toInt32 ∧ l.toInt32 ≤ 20 := by
  unfold inB at h
  obtain ⟨h1, h2⟩ := Bool.and_eq_true_iff.mp h
  have h1 := of_decide_eq_true h1
  have h2 := of_decide_eq_true h2
  rw [Int64.le_iff_toInt_le] at h1 h2
  have h1 : -20 ≤ l.toInt := h1
  have h2 : l.toInt ≤ 20 := h2
  have e : l.toInt32.toInt = l.toInt := by
    rw [Int64.toInt_toInt32]; exact Int.bmod_eq_of_le (by omega) (by omega)
  refine ⟨?_, ?_, ?_⟩
  · apply Int64.toInt_inj.mp
    rw [Int32.toInt_toInt64, e]
  · rw [Int32.le_iff_toInt_le, e]; exact h1
  · rw [Int32.le_iff_toInt_le, e]; exact h2
theorem eq64 {a : Int32} {l : Int64} (h : l.toInt32.toInt64 = l) : decide (a = l.toInt32) = decide (a.toInt64 = l) := by
  by_cases e : a = l.toInt32
  · rw [decide_eq_true e, decide_eq_true (by rw [e]; exact h)]
  · rw [decide_eq_false e, decide_eq_false]
    intro e2
    apply e
    rw [← e2, Int32.toInt32_toInt64]
theorem e_lays {st : St} {p1 p2 : Int32} {Φ : St → Int32 → Prop} (h : w_X0_lays_b19 Φ st p1 p2 (ib (inB p1.toInt64 0 2 && inB p2.toInt64 0 4))) : w_X0_lays st p1 p2 Φ := by
  unfold w_X0_lays w_X0_lays_b18
  simp only [pe_X0_isPlace, pe_X0_isSheet, ib_z]
  revert h
  cases inB p1.toInt64 0 2 <;> cases inB p2.toInt64 0 4 <;> simp [ib]
theorem mul_of (a b : Nat) : Int32.ofNat a * Int32.ofNat b = Int32.ofNat (a * b) := (Int32.ofNat_mul a b).symm
theorem Inv_lays {b : Nat} {st st' : St} {g : Nat} (hI : Inv (b + 1) st) (hg : g < 3) (hF : Fr (fun a j => wLx g a j ∨ wLm g a j) 0 0 st st') (hv : ∀ r c, r < 3 → c < 3 → sI st' (2 + (3 + 4 * g + r)) c = sI st' 177 (4 + 9 * g + 3 * r + c) ∧ (sI st' 177 (4 + 9 * g + 3 * r + c) = sI st 177 (4 + 9 * g + 3 * r + c) ∨ ((-20) ≤ sI st' 177 (4 + 9 * g + 3 * r + c) ∧ sI st' 177 (4 + 9 * g + 3 * r + c) ≤ 20))) : Inv b st' := by
  have hN := hI.1.1
  obtain ⟨K, G, M, N, ⟨q1, q2, q3, q4, q5, q6, q7, q8, ⟨p, q9, q10⟩, q11, q12⟩, ⟨c1, c2, c3, c4⟩, hGv, hTr⟩ := iHr hI
  have nW : ∀ a j, (wLx g a j ∨ wLm g a j) → (5 + 4 * g ≤ a ∧ a ≤ 7 + 4 * g ∧ j < 3) ∨ (a = 177 ∧ 4 + 9 * g ≤ j ∧ j < 13 + 9 * g) := fun a j h => by
    rcases h with ⟨r, h1, h2, h3⟩ | h
    · left; omega
    · right; exact h
  have s : ∀ a j, a < 201 → ¬ ((5 + 4 * g ≤ a ∧ a ≤ 7 + 4 * g ∧ j < 3) ∨ (a = 177 ∧ 4 + 9 * g ≤ j ∧ j < 13 + 9 * g)) → Same st st' a j := fun a j ha hn => fr_at hF (Or.inl (by omega)) (fun h => hn (nW a j h))
  obtain ⟨r1, r2, r3, r4, r5, r6, r7, r8, r9, r10, r11⟩ := Inv_fr hI hF (by omega) (by omega) (fun a j h hw => by have := nW a j hw; omega)
  have hlast : ∀ j, 31 ≤ j → sI st' 177 j = sI st 177 j := fun j hj => (s 177 j (by omega) (by omega)).1
  have hhead : ∀ j, j < 4 → sI st' 177 j = sI st 177 j := fun j hj => (s 177 j (by omega) (by omega)).1
  refine ⟨r1, r2, r3 (fun a j h hw => by have := nW a j hw; unfold REr at h; omega), ⟨K, G, M, N, ⟨q1, q2, q3, q4, by rw [hhead _ (by omega)]; exact q5, by rw [hhead _ (by omega)]; exact q6, by rw [hhead _ (by omega)]; exact q7, by rw [hhead _ (by omega)]; exact q8, ⟨p, q9, by rw [hlast _ (by omega)]; exact q10⟩, fun j u1 u2 => ?_, fun j u1 u2 => by rw [hlast _ (by omega)]; exact q12 j u1 u2⟩, ⟨fun j u1 => by rw [hhead _ u1, (s 2 j (by omega) (by omega)).1]; exact c1 j u1, by rw [hlast _ (by omega), (s 2 4 (by omega) (by omega)).1]; exact c2, fun g' r c u1 u2 u3 => ?_, fun k u1 => by rw [hlast _ (by omega), (s (2 + 14) k (by omega) (by omega)).1]; exact c4 k u1⟩, Gv_fr hF hN (by omega) (pt15 q1 q2).1 (fun a j h hw => by have := nW a j hw; omega) hGv, Tr_fr hF (by omega) (by omega) (fun a j h hw => by have := nW a j hw; omega) hTr⟩, r5 (fun a j h hw => by have := nW a j hw; unfold RIm at h; omega), r6 (fun a j h hw => by have := nW a j hw; unfold RZz at h; omega), r7 (fun a j h hw => by have := nW a j hw; unfold RPy at h; omega), r8 (fun a j h hw => by have := nW a j hw; unfold RTp at h; omega), r9 (fun a j h hw => by have := nW a j hw; unfold RLi at h; omega), r10 (fun a j h hw => by have := nW a j hw; unfold RSx at h; omega), r11 (fun a j h hw => by have := nW a j hw; unfold RNt at h; omega)⟩
  · by_cases e : 4 + 9 * g ≤ j ∧ j < 13 + 9 * g
    · have ej : 4 + 9 * g + 3 * ((j - (4 + 9 * g)) / 3) + (j - (4 + 9 * g)) % 3 = j := by omega
      have hh := (hv ((j - (4 + 9 * g)) / 3) ((j - (4 + 9 * g)) % 3) (by omega) (by omega)).2
      rw [ej] at hh
      rcases hh with hh | hh
      · rw [hh]; exact q11 j u1 u2
      · exact hh
    · rw [(s 177 j (by omega) (by omega)).1]; exact q11 j u1 u2
  · by_cases e : g' = g
    · subst e; exact (hv r c u2 u3).1
    · rw [(s _ c (by omega) (by omega)).1, (s 177 _ (by omega) (by omega)).1]; exact c3 g' r c u1 u2 u3
theorem o_lays {b : Nat} {st : St} {p1 p2 : Int32} {K E : St → Prop} (hI : Inv (b + 1) st) (hK : ∀ s, Inv b s → K s) : w_X0_lays st p1 p2 (fun s r => w_X4_lays s p1 p2 (fun s' r' => (r = r' → K s') ∧ (¬ r = r' → E s'))) := by
  obtain ⟨hN, hc1, hc2⟩ := Rm1 hI
  obtain ⟨K', G, M, N, q1, q2, q3, q4, q5, q6, q7, q8, q9, q10, q11, q12, q13, q14, q15, q16, q17, q18⟩ := hs_of hI
  have hS := iSx hI
  refine e_lays ?_
  unfold w_X0_lays_b19
  refine needI (M := fun s Ψ => w_X4_lays s p1 p2 Ψ) hI hK (by decide) (fun hc => ?_) (fun hc s2 f2 Φ h => ?_)
  · obtain ⟨h1, h2⟩ := Bool.and_eq_true_iff.mp hc
    obtain ⟨g, k1, rfl⟩ := inB_nat (m := 2) (by omega) rfl h1
    obtain ⟨k, k2, rfl⟩ := inB_nat (m := 4) (by omega) rfl h2
    have hSk := hS.1 k (by omega)
    have hmn : 1 ≤ M * N ∧ M * N ≤ 3 * N := ⟨Nat.mul_pos (by omega) (by omega), Nat.mul_le_mul_right N (by omega)⟩
    generalize hm : M * N = m at hmn
    rintro _ rfl
    rw [q11, q12, mul_of, hm, sub1n hmn.1 (by omega), vp_of (by omega), nn_of (by omega)]
    -- the reference up to its loops
    have hmx : ∀ s x y, Fr (QE 1 x) y 300 st s ∨ Fr (wLx g) 0 0 st s → ∀ Φ : St → Int32 → Prop, (lostB st k (Int32.ofNat (m - 1)) = true → w_X4_finds s 8 Φ) → (lostB st k (Int32.ofNat (m - 1)) = false → w_X4_lays_l58 Φ (fun (s56 : St) => w_X4_lays_b83 Φ s56) (fun (s65 : St) (x1 : Int32) (x2 : Int32) (x3 : Int32) => w_X4_lays_b95 Φ s65 x1 x2 x3) gFU s (Int32.ofNat g) (Int32.ofNat k) (Int32.ofNat m) 0) → w_X4_lays s (Int32.ofNat g) (Int32.ofNat k) Φ := fun s x y hs Φ ha hb => by
      have zz : ∀ a j, (a = 177 ∧ j < 4) ∨ ((a = 186 ∨ a = 187) ∧ j = k) → sI s a j = sI st a j := fun a j haj => by
        rcases hs with hs | hs
        · refine (q_at hs hN (by omega) ?_ (by omega)).1
          rcases haj with haj | haj
          · rw [haj.1]; exact nQ_177 (by omega)
          · exact nQ_Sx (by unfold RSx; omega)
        · exact (fr_at hs (Or.inl (by omega)) (fun hw => by obtain ⟨r, hr, e1, e2⟩ := hw; omega)).1
      have hfl : fewB s k (Int32.ofNat m) = lostB st k (Int32.ofNat (m - 1)) := by
        rw [← few_lost hSk hmn.1 (by omega)]
        unfold fewB
        rw [zz 186 k (Or.inr ⟨Or.inl rfl, rfl⟩), zz 187 k (Or.inr ⟨Or.inr rfl, rfl⟩)]
      unfold w_X4_lays
      rw [pe_X4_isIn, h1, ib_z]
      refine ⟨fun h => (by cases h), fun _ => ?_⟩
      rw [pe_X4_isSheet, h2, ib_nz, ib_z]
      refine ⟨fun _ => ?_, fun h => (by cases h)⟩
      rintro _ rfl
      rw [zz 177 2 (Or.inl ⟨rfl, by omega⟩), zz 177 3 (Or.inl ⟨rfl, by omega⟩), q7, q8, mul_of, hm, pe_X4_hasFew (by omega), hfl, ib_z]
      refine ⟨hb, fun hn => ha ?_⟩
      cases hl : lostB st k (Int32.ofNat (m - 1))
      · exact absurd hl hn
      · rfl
    refine ⟨by omega, s_getN hSk (by omega) (by omega) (by omega) (fun hl hl60 => ?_) (fun hl st1 e f1 he e1 => ?_)⟩
    · have hlall : ∀ i, i < m → lostB st k (Int32.ofNat i) = false := fun i hi => lost_mono hSk (by omega) (by omega) hl
      refine x_lays_1 (by omega) hSk (by omega) hlall (by omega) (by omega) (fun hgood => ?_) (fun hbad st1 e f1 he e1 => ?_)
      · unfold w_X0_lays_b91
        refine x_lays_2 hN (by omega) (by omega) hS (by omega) hmn.2 q12 hlall (by omega) (by omega) (fun s f1 v1 => ?_)
        unfold w_X0_lays_b188
        show w_X4_lays s _ _ _
        have s5 : ∀ j, sL s 185 j = sL st 185 j := fun j => (fr_at f1 (Or.inl (by omega)) (fun hw => by obtain ⟨r, hr, q1, q2⟩ := hw; omega)).2.1
        have s7 : ∀ j, sI s 177 j = sI st 177 j := fun j => (fr_at f1 (Or.inl (by omega)) (fun hw => by obtain ⟨r, hr, q1, q2⟩ := hw; omega)).1
        refine hmx s 0 0 (Or.inr f1) _ (fun h => by rw [hl] at h; cases h) (fun _ => ?_)
        refine m_lays_1 (by omega) (by omega) (fun _ => ?_) (fun ⟨i, hi, hb⟩ => by rw [s5, hgood i hi] at hb; cases hb)
        unfold w_X4_lays_b95
        refine m_lays_2 (N := N) (Nat.le_trans hN f1.1) (by omega) (by omega) (by omega) hmn.2 ((s7 3).trans q8) (fun s' f2 v2 => ?_)
        unfold w_X4_lays_b181
        refine ⟨fun _ => hK _ ?_, fun h => absurd ?_ h⟩
        · have fa : Fr (fun a j => wLx g a j ∨ wLm g a j) 0 0 st s' := Fr_tr (x := 0) (y := 0) (Fr_mo f1 (fun _ _ h => Or.inl h) (Nat.le_refl _) (Nat.le_refl _)) (Fr_mo f2 (fun _ _ h => Or.inr h) (Nat.le_refl _) (Nat.le_refl _))
          refine Inv_lays hI (by omega) fa (fun r c hr hc => ?_)
          have ex : sI s' (2 + (3 + 4 * g + r)) c = sI s (2 + (3 + 4 * g + r)) c := (fr_at f2 (Or.inl (by have := f1.1; omega)) (fun hw => by unfold wLm at hw; omega)).1
          rw [ex, v1 r c hr hc, v2 r c hr hc, s5, s7]
          by_cases e : c < N ∧ r * N + c < m
          · rw [if_pos e, if_pos e]
            exact ⟨rfl, Or.inr (in20 (hgood _ e.2)).2⟩
          · rw [if_neg e, if_neg e]
            exact ⟨q16 g r c (by omega) hr hc, Or.inl rfl⟩
        · refine cnC_cg m (fun i hi => ?_)
          have hdv : i / N < 3 := by rcases (by omega : N = 1 ∨ N = 2 ∨ N = 3) with rfl | rfl | rfl <;> omega
          have hmd : i % N < 3 := by have := Nat.mod_lt i (show N > 0 by omega); omega
          rw [q16 g _ _ (by omega) hdv hmd, s5, s7, eq64 (in20 (hgood i hi)).1]
      · refine errI (M := fun s Ψ => w_X4_lays s (Int32.ofNat g) (Int32.ofNat k) Ψ) hI hK (k := 5) (by decide) f1 he e1 (by omega) (by omega) (fun s2 f2 Φ h => ?_)
        refine hmx s2 5 1 (Or.inl (Fr_mo f2 (fun _ _ h => h) (by omega) (by omega))) Φ (fun h => by rw [hl] at h; cases h) (fun _ => ?_)
        have s5 : ∀ j, sL s2 185 j = sL st 185 j := fun j => (q_at f2 hN (by omega) (nQ_Sx (by unfold RSx; omega)) (by omega)).2.1
        refine m_lays_1 (by omega) (by omega) (fun hg => ?_) (fun _ => h)
        obtain ⟨i, hi, hb⟩ := hbad
        have := hg i hi
        rw [s5, hb] at this; cases this
    · refine errI (M := fun s Ψ => w_X4_lays s (Int32.ofNat g) (Int32.ofNat k) Ψ) hI hK (k := 8) (by decide) f1 he e1 (by omega) (by omega) (fun s2 f2 Φ h => ?_)
      exact hmx s2 8 4 (Or.inl (Fr_mo f2 (fun _ _ h => h) (by omega) (by omega))) Φ (fun _ => h) (fun h => by rw [hl] at h; cases h)
  · show w_X4_lays s2 _ _ _
    unfold w_X4_lays w_X4_lays_b19
    rw [pe_X4_isIn, ib_z]
    refine ⟨fun _ => h, fun hp => ?_⟩
    rw [pe_X4_isSheet, ib_nz, ib_z]
    rcases b_or hc with h3 | h3
    · exact absurd h3 hp
    · rw [h3]; exact ⟨fun h => (by cases h), fun _ => h⟩
