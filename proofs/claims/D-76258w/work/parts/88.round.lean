/-! PLAIN LAW, 49: round -/
set_option maxRecDepth 100000
theorem Ws_fn {W : Nat → Nat → Prop} {x y : Nat} {st st' : St} (hF : Fr W x y st st') (hN : 201 ≤ sN st) (m : Nat) (hW : ∀ a j, (a = 181 ∧ j < 5 * m) ∨ 201 ≤ a → ¬ W a j) : ∀ (n : Nat) (w : Option Nat), n ≤ m → Ws st n w → Ws st' n w
  | 0, _, _, h => h
  | n + 1, w, hn, h => by
    obtain ⟨a, h1, h2, h3, h4, h5, h6, h7, h8, h9⟩ := h
    have hN := hF.1
    have ea := hF.2.2.2 a (Or.inl h3)
    have sa : ∀ j, Same st st' a j := fun j => ea.2.2 j (hW a j (Or.inr h2))
    have sp : ∀ j, j < 5 * m → sI st' 181 j = sI st 181 j := fun j hj => (fr_at hF (Or.inl (by omega)) (hW 181 j (Or.inl ⟨rfl, hj⟩))).1
    refine ⟨a, h1, h2, by omega, h4, by rw [ea.1]; exact h5, fun k hk => by rw [(sa k).1, sp _ (by omega)]; exact h6 k hk, by rw [(sa 3).1, sp _ (by omega)]; exact h7, ?_, ?_⟩
    · rw [(sa 4).1, h8]
      by_cases e : n = 0
      · rw [if_pos e, if_pos e]
      · rw [if_neg e, if_neg e, sp _ (by omega)]
    · rw [(sa 5).2.2]
      exact Ws_fn hF (by omega) m hW n _ (by omega) h9
theorem exT_b {e : Nat → Int32} {f : Nat → Nat → Nat → Int32} {r c : Nat} : ∀ k, k ≤ 3 → (∀ i, i < k → (0 ≤ (e i).toInt ∧ (e i).toInt ≤ 7140) ∧ -20 ≤ (f i r c).toInt ∧ (f i r c).toInt ≤ 20) → -(142800 * (k : Int)) ≤ (exT k e f r c).toInt ∧ (exT k e f r c).toInt ≤ 142800 * (k : Int)
  | 0, _, _ => by show -(142800 * (0 : Int)) ≤ 0 ∧ (0 : Int) ≤ 142800 * 0; omega
  | k + 1, hk, h => by
    obtain ⟨i1, i2⟩ := exT_b (e := e) (f := f) (r := r) (c := c) k (by omega) (fun i hi => h i (by omega))
    obtain ⟨⟨h1, h2⟩, h3, h4⟩ := h k (by omega)
    have hp : ((e k).toInt * (f k r c).toInt).natAbs ≤ 7140 * 20 := by rw [Int.natAbs_mul]; exact Nat.mul_le_mul (by omega) (by omega)
    have e1 : exT (k + 1) e f r c = exT k e f r c + (e k).toInt64 * (f k r c).toInt64 := rfl
    have e2 : ((e k).toInt64 * (f k r c).toInt64).toInt = (e k).toInt * (f k r c).toInt := by
      rw [tmul, Int32.toInt_toInt64, Int32.toInt_toInt64]; apply bm_fit; unfold fit; omega
    have e3 : (exT (k + 1) e f r c).toInt = (exT k e f r c).toInt + (e k).toInt * (f k r c).toInt := by
      rw [e1, tadd, e2]; apply bm_fit; unfold fit; omega
    rw [e3]; push_cast; omega
/-- a round kept -/
theorem s_was {st : St} {Φ : St → Prop} (hN : 201 ≤ sN st) (hg : sN st < gBIG) (h : ∀ s, Fr (fun a j => a = 0 ∧ j = 47) 1 6 st s → sN s = sN st + 1 → sh s (sN st) = 9 → sR s 0 47 = some (sN st) → (∀ k, k < 3 → sI s (sN st) k = sI st 147 k) → sI s (sN st) 3 = sI st 0 6 → sI s (sN st) 4 = sI st 0 46 → sR s (sN st) 5 = sR st 0 47 → Φ s) : w_X9_init (mk st 9 6) (sN st) 147 (sI (mk st 9 6) 0 6) (sI (mk st 9 6) 0 46) (sR (mk st 9 6) 0 47) (fun s81 => ∀ s88, s88 = putR s81 0 47 (some (sN st)) → Φ s88) := by
  have b : ∀ c j, c < 201 → sI (mk st 9 6) c j = sI st c j := fun c j hc => by rw [gI_mk, if_neg (by omega)]
  have r : sR (mk st 9 6) 0 47 = sR st 0 47 := by rw [gR_mk, if_neg (by omega)]
  unfold w_X9_init
  rw [b 0 6 (by omega), b 0 46 (by omega), r, b 147 0 (by omega)]
  intro s1 h1 s3 h3 s5 h5 s7 h7 s9 h9 s11 h11 s12 h12
  have e1 : sI s1 147 1 = sI st 147 1 := by rw [h1, gI_pI, if_neg (by omega), b 147 1 (by omega)]
  rw [e1] at h3
  have e3 : sI s3 147 2 = sI st 147 2 := by rw [h3, gI_pI, if_neg (by omega), h1, gI_pI, if_neg (by omega), b 147 2 (by omega)]
  rw [e3] at h5
  clear e1 e3
  have F : Fr (fun a j => a = 0 ∧ j = 47) 1 6 st s12 := by
    rw [h12, h11, h9, h7, h5, h3, h1]
    exact Fr_R (Fr_R (Fr_I (Fr_I (Fr_I (Fr_I (Fr_I (Fr_mk (x := 0) (y := 0) Fr_rf hg) (Or.inr ⟨Nat.le_refl _, hg⟩)) (Or.inr ⟨Nat.le_refl _, hg⟩)) (Or.inr ⟨Nat.le_refl _, hg⟩)) (Or.inr ⟨Nat.le_refl _, hg⟩)) (Or.inr ⟨Nat.le_refl _, hg⟩)) (Or.inr ⟨Nat.le_refl _, hg⟩)) (Or.inl ⟨rfl, rfl⟩)
  have a0 : sN st ≠ 0 := by omega
  refine h s12 F ?_ ?_ ?_ (fun k hk => ?_) ?_ ?_ ?_
  · rw [h12, h11, h9, h7, h5, h3, h1, gN_pR, gN_pR, gN_pI, gN_pI, gN_pI, gN_pI, gN_pI, gN_mk]
  · rw [h12, h11, h9, h7, h5, h3, h1, gs_pR, gs_pR, gs_pI, gs_pI, gs_pI, gs_pI, gs_pI, gs_mk, if_pos rfl]
  · rw [h12, gR_pR, if_pos ⟨rfl, rfl⟩]
  · rw [h12, h11, h9, h7, gI_pR, gI_pR, gI_pI, if_neg (by omega), gI_pI, if_neg (by omega), h5, gI_pI]
    rcases (by omega : k = 0 ∨ k = 1 ∨ k = 2) with rfl | rfl | rfl
    · rw [if_neg (by omega), h3, gI_pI, if_neg (by omega), h1, gI_pI, if_pos ⟨rfl, rfl⟩]
    · rw [if_neg (by omega), h3, gI_pI, if_pos ⟨rfl, rfl⟩]
    · rw [if_pos ⟨rfl, rfl⟩]
  · rw [h12, h11, h9, h7, gI_pR, gI_pR, gI_pI, if_neg (by omega), gI_pI, if_pos ⟨rfl, rfl⟩]
  · rw [h12, h11, h9, gI_pR, gI_pR, gI_pI, if_pos ⟨rfl, rfl⟩]
  · rw [h12, h11, gR_pR, if_neg (by omega), gR_pR, if_pos ⟨rfl, rfl⟩]
def wRx (a j : Nat) : Prop := (a = 147 ∧ j < 3) ∨ (a = 0 ∧ (j = 44 ∨ j = 46))
theorem x_rtail {s : St} {K G M N r q : Nat} {Φ : St → Int32 → Prop} (hN : 201 ≤ sN s) (hs : Hs s K G M N) (hr : r < 3) (hq : q < 3) (h : ∀ sE, Fr wRx 0 0 s sE → sI sE 0 46 = Int32.ofNat q → sI sE 0 44 = sI s 0 44 + 1 → (∀ k, k < 3 → sI sE 147 k = if k < K then sI s 147 k + gmF s k r q else sI s 147 k) → Φ sE (Int32.ofNat q)) : w_X0_round_b80 Φ s (Int32.ofNat r) (Int32.ofNat q) := by
  obtain ⟨q1, q2, q3, q4, q5, q6, q7, q8, q9, q10, q11, q12, q13, q14, q15, q16⟩ := hs
  unfold w_X0_round_b80
  rintro _ rfl
  have F0 : Fr wRx 0 0 s (putI s 0 46 (Int32.ofNat q)) := Fr_I Fr_rf (Or.inl (Or.inr ⟨rfl, Or.inr rfl⟩))
  have v0 : sI (putI s 0 46 (Int32.ofNat q)) 0 46 = Int32.ofNat q := by rw [gI_pI, if_pos ⟨rfl, rfl⟩]
  have u0 : sI (putI s 0 46 (Int32.ofNat q)) 0 44 = sI s 0 44 := by rw [gI_pI, if_neg (by omega)]
  have w0 : ∀ k, k < 3 → sI (putI s 0 46 (Int32.ofNat q)) 147 k = sI s 147 k := fun k _ => by rw [gI_pI, if_neg (by omega)]
  generalize putI s 0 46 (Int32.ofNat q) = s0 at F0 v0 u0 w0
  refine loop_up (α := St × Int32) (L := fun m a => w_X0_round_l85 Φ (fun (s127 : St) => w_X0_round_b127 Φ s127) m a.1 (Int32.ofNat r) a.2) K (fun i a => a.2 = Int32.ofNat i ∧ Fr wRx 0 0 s a.1 ∧ sI a.1 0 46 = Int32.ofNat q ∧ sI a.1 0 44 = sI s 0 44 ∧ ∀ k, k < 3 → sI a.1 147 k = if k < i then sI s 147 k + gmF s k r q else sI s 147 k) (fun m i a hi hA k9 => ?_) (fun m a hA => ?_) gFU 0 (s0, 0) (by omega) (gFU_big (by omega)) ⟨rfl, F0, v0, u0, fun k hk => by rw [if_neg (by omega)]; exact w0 k hk⟩
  · obtain ⟨s1, x⟩ := a
    obtain ⟨e, F, v, u, w⟩ := hA
    dsimp only at e F v u w
    subst e
    show w_X0_round_l85 Φ _ (m + 1) s1 _ _
    have e20 : sI s1 2 0 = Int32.ofNat K := (fr_at F (Or.inl (by omega)) (by unfold wRx; omega)).1.trans q9
    have eg : sI s1 (2 + (3 + 4 * i + r)) q = gmF s i r q := (fr_at F (Or.inl (by omega)) (by unfold wRx; omega)).1.trans (q15 i r q (by omega) (by omega) (by omega))
    rw [w_X0_round_l85, e20, le_of (by omega) (by omega), v, vp_of (by omega), vp_of (by omega), vp_of (by omega), nn_of (by omega), nn_of (by omega), nn_of (by omega), eg, w i (by omega), if_neg (by omega)]
    refine ⟨fun h => absurd h (by omega), fun _ => ⟨by omega, by omega, by omega, ?_⟩⟩
    intro s9 hs9
    refine k9 (s9, _) ?_
    dsimp only
    subst hs9
    refine ⟨succ_of i, Fr_I F (Or.inl (Or.inl ⟨rfl, by omega⟩)), by rw [gI_pI, if_neg (by omega)]; exact v, by rw [gI_pI, if_neg (by omega)]; exact u, fun k hk => ?_⟩
    rw [gI_pI]
    by_cases e : k = i
    · subst e; rw [if_pos ⟨rfl, rfl⟩, if_pos (by omega)]
    · rw [if_neg (fun h => e h.2), w k hk]
      by_cases e2 : k < i
      · rw [if_pos e2, if_pos (by omega)]
      · rw [if_neg e2, if_neg (by omega)]
  · obtain ⟨s1, x⟩ := a
    obtain ⟨e, F, v, u, w⟩ := hA
    dsimp only at e F v u w
    subst e
    show w_X0_round_l85 Φ _ (m + 1) s1 _ _
    have e20 : sI s1 2 0 = Int32.ofNat K := (fr_at F (Or.inl (by omega)) (by unfold wRx; omega)).1.trans q9
    rw [w_X0_round_l85, e20]
    refine ⟨fun _ => ?_, fun h => absurd (Int32.le_refl _) h⟩
    unfold w_X0_round_b127
    rintro _ rfl
    have e46 : sI (putI s1 0 44 (sI s1 0 44 + 1)) 0 46 = Int32.ofNat q := by rw [gI_pI, if_neg (by omega)]; exact v
    rw [e46]
    exact h _ (Fr_I F (Or.inl (Or.inr ⟨rfl, Or.inl rfl⟩))) e46 (by rw [gI_pI, if_pos ⟨rfl, rfl⟩, u]) (fun k hk => by rw [gI_pI, if_neg (by omega)]; exact w k hk)
/-- what is kept of the round -/
theorem m_rhead {s : St} {n r : Nat} {Φ : St → Int32 → Prop} {E : St → Int32 → Int32 → Prop} (hN : 201 ≤ sN s) (hn : n < 60) (h : ∀ s3, Fr (fun a j => a = 181 ∧ 5 * n ≤ j ∧ j < 5 * n + 5) 0 0 s s3 → sI s3 181 (5 * n) = sI s 177 96 → (∀ j, j < 3 → sI s3 181 (5 * n + 1 + j) = sI s 180 j) → E s3 (Int32.ofNat r) (Int32.ofNat (5 * n))) : ∀ s15, s15 = putI s 181 (5 * n) (sI s 177 96) → w_X4_round_l74 Φ E gFU s15 (Int32.ofNat r) (Int32.ofNat (5 * n)) 0 := by
  rintro _ rfl
  have F0 : Fr (fun a j => a = 181 ∧ 5 * n ≤ j ∧ j < 5 * n + 5) 0 0 s (putI s 181 (5 * n) (sI s 177 96)) := Fr_I Fr_rf (Or.inl ⟨rfl, by omega, by omega⟩)
  have v0 : sI (putI s 181 (5 * n) (sI s 177 96)) 181 (5 * n) = sI s 177 96 := by rw [gI_pI, if_pos ⟨rfl, rfl⟩]
  generalize putI s 181 (5 * n) (sI s 177 96) = s0 at F0 v0
  refine loop_up (α := St × Int32) (L := fun m a => w_X4_round_l74 Φ E m a.1 (Int32.ofNat r) (Int32.ofNat (5 * n)) a.2) 3 (fun i a => a.2 = Int32.ofNat i ∧ Fr (fun a j => a = 181 ∧ 5 * n ≤ j ∧ j < 5 * n + 5) 0 0 s a.1 ∧ sI a.1 181 (5 * n) = sI s 177 96 ∧ ∀ j, j < i → sI a.1 181 (5 * n + 1 + j) = sI s 180 j) (fun m i a hi hA k9 => ?_) (fun m a hA => ?_) gFU 0 (s0, 0) (by omega) (gFU_big (by omega)) ⟨rfl, F0, v0, fun j hj => absurd hj (by omega)⟩
  · obtain ⟨s1, x⟩ := a
    obtain ⟨e, F, v, u⟩ := hA
    dsimp only at e F v u
    subst e
    show w_X4_round_l74 Φ E (m + 1) s1 _ _ _
    have e3 : ((3 : Int32) ≤ Int32.ofNat i) = (3 ≤ i) := le_of (m := 3) (by omega) (by omega)
    have e4 : Int32.ofNat (5 * n) + 1 + Int32.ofNat i = Int32.ofNat (5 * n + 1 + i) := by simp only [Int32.ofNat_add]; rfl
    rw [w_X4_round_l74, e3, e4, vp_of (by omega), vp_of (by omega), nn_of (by omega), nn_of (by omega), (fr_at F (Or.inl (by omega)) (by omega)).1]
    refine ⟨fun h => absurd h (by omega), fun _ => ⟨by omega, by omega, ?_⟩⟩
    intro s9 hs9
    refine k9 (s9, _) ?_
    dsimp only
    subst hs9
    refine ⟨succ_of i, Fr_I F (Or.inl ⟨rfl, by omega, by omega⟩), by rw [gI_pI, if_neg (by omega)]; exact v, fun j hj => ?_⟩
    rw [gI_pI]
    by_cases e : j = i
    · subst e; rw [if_pos ⟨rfl, rfl⟩]
    · rw [if_neg (by omega)]; exact u j (by omega)
  · obtain ⟨s1, x⟩ := a
    obtain ⟨e, F, v, u⟩ := hA
    dsimp only at e F v u
    subst e
    show w_X4_round_l74 Φ E (m + 1) s1 _ _ _
    rw [w_X4_round_l74]
    exact ⟨fun _ => h s1 F v u, fun h => absurd (Int32.le_refl _) h⟩
theorem m_rtail {s : St} {K G M N r q : Nat} {Φ : St → Int32 → Prop} (hN : 201 ≤ sN s) (hs : Hs s K G M N) (hr : r < 3) (hq : q < 3) (h : ∀ sE, Fr (fun a j => (a = 180 ∧ j < 3) ∨ (a = 175 ∧ j = 6)) 0 0 s sE → sI sE 175 6 = sI s 175 6 + 1 → (∀ k, k < 3 → sI sE 180 k = if k < K then sI s 180 k + gmF s k r q else sI s 180 k) → Φ sE (Int32.ofNat q)) : w_X4_round_l118 Φ (fun (s47 : St) (x3 : Int32) => w_X4_round_b157 Φ s47 x3) gFU s (Int32.ofNat r) (Int32.ofNat q) 0 := by
  obtain ⟨q1, q2, q3, q4, q5, q6, q7, q8, q9, q10, q11, q12, q13, q14, q15, q16⟩ := hs
  refine loop_up (α := St × Int32) (L := fun m a => w_X4_round_l118 Φ (fun (s47 : St) (x3 : Int32) => w_X4_round_b157 Φ s47 x3) m a.1 (Int32.ofNat r) (Int32.ofNat q) a.2) K (fun i a => a.2 = Int32.ofNat i ∧ Fr (fun a j => (a = 180 ∧ j < 3) ∨ (a = 175 ∧ j = 6)) 0 0 s a.1 ∧ sI a.1 175 6 = sI s 175 6 ∧ ∀ k, k < 3 → sI a.1 180 k = if k < i then sI s 180 k + gmF s k r q else sI s 180 k) (fun m i a hi hA k9 => ?_) (fun m a hA => ?_) gFU 0 (s, 0) (by omega) (gFU_big (by omega)) ⟨rfl, Fr_rf, rfl, fun k hk => by rw [if_neg (by omega)]⟩
  · obtain ⟨s1, x⟩ := a
    obtain ⟨e, F, v, w⟩ := hA
    dsimp only at e F v w
    subst e
    show w_X4_round_l118 Φ _ (m + 1) s1 _ _ _
    have e20 : sI s1 177 0 = Int32.ofNat K := (fr_at F (Or.inl (by omega)) (by omega)).1.trans q5
    have eg : sI s1 177 (4 + 9 * i + 3 * r + q) = gmF s i r q := (fr_at F (Or.inl (by omega)) (by omega)).1
    rw [w_X4_round_l118, e20, le_of (by omega) (by omega), vp_of (by omega), pe_X4_place (by omega) hr hq, vp_of (by omega), nn_of (by omega), nn_of (by omega), eg, w i (by omega), if_neg (by omega)]
    refine ⟨fun h => absurd h (by omega), fun _ => ⟨by omega, by omega, ?_⟩⟩
    intro s9 hs9
    refine k9 (s9, _) ?_
    dsimp only
    subst hs9
    refine ⟨succ_of i, Fr_I F (Or.inl (Or.inl ⟨rfl, by omega⟩)), by rw [gI_pI, if_neg (by omega)]; exact v, fun k hk => ?_⟩
    rw [gI_pI]
    by_cases e : k = i
    · subst e; rw [if_pos ⟨rfl, rfl⟩, if_pos (by omega)]
    · rw [if_neg (fun h => e h.2), w k hk]
      by_cases e2 : k < i
      · rw [if_pos e2, if_pos (by omega)]
      · rw [if_neg e2, if_neg (by omega)]
  · obtain ⟨s1, x⟩ := a
    obtain ⟨e, F, v, w⟩ := hA
    dsimp only at e F v w
    subst e
    show w_X4_round_l118 Φ _ (m + 1) s1 _ _ _
    have e20 : sI s1 177 0 = Int32.ofNat K := (fr_at F (Or.inl (by omega)) (by omega)).1.trans q5
    rw [w_X4_round_l118, e20]
    refine ⟨fun _ => ?_, fun h => absurd (Int32.le_refl _) h⟩
    unfold w_X4_round_b157
    rintro _ rfl
    exact h _ (Fr_I F (Or.inl (Or.inr ⟨rfl, rfl⟩))) (by rw [gI_pI, if_pos ⟨rfl, rfl⟩, v]) (fun k hk => by rw [gI_pI, if_neg (by omega)]; exact w k hk)
/-- the column that is played, and the state of the draw behind it -/
def PqK (K M N : Nat) (e : Nat → Int32) (f : Nat → Nat → Nat → Int32) (z0 : Int32) (q : Nat) (z : Int32) : Prop := (smI e K = 0 ∧ q = 0 ∧ z = z0) ∨ (smI e K ≠ 0 ∧ ∃ n a c k, StpK (exT K e f) M N (zNx z0) n a c k ∧ q = gD c k ∧ z = zNx z0)
theorem pq_lt {K M N : Nat} {e : Nat → Int32} {f : Nat → Nat → Nat → Int32} {z0 z : Int32} {q : Nat} (hN : 1 ≤ N ∧ N ≤ 3) (h : PqK K M N e f z0 q z) : q < 3 := by
  rcases h with ⟨-, rfl, -⟩ | ⟨-, n, a, c, k, ⟨g0, g1, g2, g3, g4, g5, g6, g7, -⟩, rfl, -⟩
  · omega
  · have := set_lt g3 g5 k g7; omega
theorem m_ans {s : St} {K G M N q : Nat} {z0 z : Int32} {e : Nat → Int32} {f : Nat → Nat → Nat → Int32} {Φ : St → Int32 → Prop} (hN : 201 ≤ sN s) (hs : Hs s K G M N) (he : ∀ k, k < K → exM s k = e k) (hf : gmF s = f) (hz : sI s 177 96 = z0) (hb : ∀ r c, r < M → c < N → bd (exT K e f r c).toInt) (hP : PqK K M N e f z0 q z) (h : ∀ s4, Fr wAm 0 0 s s4 → sI s4 177 96 = z → Φ s4 (Int32.ofNat q)) : w_X4_answer s Φ := by
  have e1 : smI (exM s) K = smI e K := smI_cg K he
  have e2 : exT K (exM s) (gmF s) = exT K e f := exT_cg he hf
  rcases hP with ⟨h0, rfl, rfl⟩ | ⟨h0, n, a, c, k, hS, rfl, rfl⟩
  · refine m_answer (n := 0) (a := []) (c := []) (k := 0) hN hs (by rw [e2]; exact hb) (fun _ => h s Fr_rf hz) (fun h9 => absurd (e1.trans h0) h9) (fun h9 => absurd (e1.trans h0) h9)
  · refine m_answer (n := n) (a := a) (c := c) (k := k) hN hs (by rw [e2]; exact hb) (fun h9 => absurd (e1.symm.trans h9) h0) (fun _ => by rw [e2, hz]; exact hS) (fun _ s4 f4 v4 => h s4 f4 (by rw [v4, hz]))
def wRy (a j : Nat) : Prop := (a = 0 ∧ (j = 6 ∨ j = 8 ∨ j = 9 ∨ j = 16 ∨ j = 17 ∨ j = 44 ∨ j = 46 ∨ j = 47)) ∨ (96 ≤ a ∧ a ≤ 132) ∨ (a = 147 ∧ j < 3)
def wRm (n a j : Nat) : Prop := (a = 175 ∧ (j = 6 ∨ (20 < j ∧ j ≤ 30))) ∨ (a = 177 ∧ j = 96) ∨ (a = 180 ∧ j < 3) ∨ (a = 181 ∧ 5 * n ≤ j ∧ j < 5 * n + 5) ∨ (188 ≤ a ∧ a ≤ 193)
theorem m_round {sx : St} {K G M N n r q : Nat} {e : Nat → Int32} {f : Nat → Nat → Nat → Int32} {z : Int32} {Φ : St → Int32 → Prop} (hNx : 201 ≤ sN sx) (hsx : Hs sx K G M N) (h5 : sI sx 175 5 ≠ 0) (h6 : sI sx 175 6 = Int32.ofNat n) (hn : n < 60) (hr : r < M) (he : ∀ k, k < K → exM sx k = e k) (hf : gmF sx = f) (hb : ∀ r c, r < M → c < N → bd (exT K e f r c).toInt) (hP : PqK K M N e f (sI sx 177 96) q z) (h : ∀ sE, Fr (wRm n) 0 0 sx sE → sI sE 175 6 = Int32.ofNat (n + 1) → sI sE 177 96 = z → sI sE 181 (5 * n) = sI sx 177 96 → (∀ k, k < 3 → sI sE 181 (5 * n + 1 + k) = sI sx 180 k) → sI sE 181 (5 * n + 4) = Int32.ofNat q → (∀ k, k < 3 → sI sE 180 k = if k < K then sI sx 180 k + gmF sx k r q else sI sx 180 k) → Φ sE (Int32.ofNat q)) : w_X4_round sx (Int32.ofNat r) Φ := by
  have hq := pq_lt hsx.2.2.2.1 hP
  have q3 := hsx.2.2.1
  have q1 := hsx.1
  have q7 := hsx.2.2.2.2.2.2.1
  have hin : inB (Int32.ofNat r).toInt64 0 (Int64.ofInt ((M - 1 : Nat) : Int)) = true := by
    rw [inB_of (m := M - 1) (by omega) (by omega) rfl]; exact decide_eq_true (by omega)
  unfold w_X4_round
  rw [h6, q7, sub1_64 (by omega) (by omega), pe_X4_isIn, hin, ib_nz, ib_z]
  refine ⟨fun _ => ⟨fun _ => ⟨fun _ => ?_, fun h => ?_⟩, fun h => (by cases h)⟩, fun h => absurd h h5⟩
  · rintro _ rfl
    have e5 : (5 : Int32) * Int32.ofNat n = Int32.ofNat (5 * n) := by rw [Int32.ofNat_mul]; rfl
    rw [e5, vp_of (by omega), nn_of (by omega)]
    refine ⟨by omega, m_rhead (n := n) (r := r) hNx (by omega) (fun s3 f3 w0 w1 => ?_)⟩
    have hN3 : 201 ≤ sN s3 := Nat.le_trans hNx f3.1
    obtain ⟨hs3, g3⟩ := Hs_q f3 hNx (fun a j h hw => by omega) hsx
    have g3' : gmF s3 = gmF sx := gm_eq f3 hNx (fun j hw => by omega)
    have o3 : ∀ a j, a < 201 → ¬ (a = 181) → sI s3 a j = sI sx a j := fun a j h1 h2 => (fr_at f3 (Or.inl (by omega)) (by omega)).1
    unfold w_X4_round_b101
    refine m_ans (q := q) (z := z) hN3 hs3 (e := e) (f := f) (fun k hk => ?_) (g3'.trans hf) (o3 177 96 (by omega) (by omega)) hb hP (fun s4 f4 v4 => ?_)
    · rw [← he k hk]
      unfold exM
      rw [o3 180 k (by omega) (by omega), o3 175 6 (by omega) (by omega), o3 177 (32 + k) (by omega) (by omega)]
    · have hN4 : 201 ≤ sN s4 := Nat.le_trans hN3 f4.1
      have e54 : Int32.ofNat (5 * n) + 4 = Int32.ofNat (5 * n + 4) := by rw [Int32.ofNat_add]; rfl
      rw [e54, vp_of (by omega), nn_of (by omega)]
      refine ⟨by omega, ?_⟩
      intro s5 hs5
      have f5 : Fr (wRm n) 0 0 s4 s5 := by rw [hs5]; exact Fr_I Fr_rf (Or.inl (by unfold wRm; omega))
      have v5 : sI s5 181 (5 * n + 4) = Int32.ofNat q := by rw [hs5, gI_pI, if_pos ⟨rfl, rfl⟩]
      have o5 : ∀ a j, ¬ (a = 181 ∧ j = 5 * n + 4) → sI s5 a j = sI s4 a j := fun a j h => by rw [hs5, gI_pI, if_neg h]
      clear hs5
      have hN5 : 201 ≤ sN s5 := Nat.le_trans hN4 f5.1
      have F35 : Fr (wRm n) 0 0 s3 s5 := Fr_tr (x := 0) (y := 0) (Fr_mo f4 (fun a j h => by unfold wAm wTm wKy wKm at h; unfold wRm; omega) (Nat.le_refl _) (Nat.le_refl _)) f5
      have Fx5 : Fr (wRm n) 0 0 sx s5 := Fr_tr (x := 0) (y := 0) (Fr_mo f3 (fun a j h => by unfold wRm; omega) (Nat.le_refl _) (Nat.le_refl _)) F35
      obtain ⟨hs5, gg5⟩ := Hs_q Fx5 hNx (fun a j h hw => by unfold wRm at hw; omega) hsx
      have p4 : ∀ a j, a = 181 ∨ a = 180 ∨ (a = 175 ∧ j = 6) → sI s4 a j = sI s3 a j := fun a j h => (fr_at f4 (Or.inl (by omega)) (by unfold wAm wTm wKy wKm; omega)).1
      refine m_rtail hN5 hs5 (by omega) hq (fun sE fE t6 t180 => ?_)
      have oE : ∀ a j, a < 201 → ¬ ((a = 180 ∧ j < 3) ∨ (a = 175 ∧ j = 6)) → sI sE a j = sI s5 a j := fun a j h1 h2 => (fr_at fE (Or.inl (by omega)) h2).1
      refine h sE (Fr_tr (x := 0) (y := 0) Fx5 (Fr_mo fE (fun a j h => by unfold wRm; omega) (Nat.le_refl _) (Nat.le_refl _))) ?_ ?_ ?_ (fun k hk => ?_) ?_ (fun k hk => ?_)
      · rw [t6, o5 175 6 (by omega), p4 175 6 (by omega), o3 175 6 (by omega) (by omega), h6, succ_of]
      · rw [oE 177 96 (by omega) (by omega), o5 177 96 (by omega), v4]
      · rw [oE 181 _ (by omega) (by omega), o5 181 _ (by omega), p4 181 _ (by omega), w0]
      · rw [oE 181 _ (by omega) (by omega), o5 181 _ (by omega), p4 181 _ (by omega), w1 k hk]
      · rw [oE 181 _ (by omega) (by omega), v5]
      · rw [t180 k hk, gg5 k r q hk (by omega) hq, o5 180 k (by omega), p4 180 k (by omega), o3 180 k (by omega) (by omega)]
  · have := of_inj (n := 60) (by omega) (by omega) h; omega
/-- what the component leaves of a round -/
def XR (st sx : St) (K M N n r q : Nat) (e : Nat → Int32) (z : Int32) : Prop := Fr wRy 1 6 st sx ∧ sN st < sN sx ∧ PqK K M N e (gmF st) (sI st 0 6) q z ∧ sI sx 0 6 = z ∧ sI sx 0 44 = Int32.ofNat (n + 1) ∧ sI sx 0 46 = Int32.ofNat q ∧ sR sx 0 47 = some (sN st) ∧ (∀ k, k < 3 → sI sx 147 k = if k < K then sI st 147 k + gmF st k r q else sI st 147 k) ∧ sh sx (sN st) = 9 ∧ (∀ k, k < 3 → sI sx (sN st) k = sI st 147 k) ∧ sI sx (sN st) 3 = sI st 0 6 ∧ sI sx (sN st) 4 = sI st 0 46 ∧ sR sx (sN st) 5 = sR st 0 47
theorem x_rfin {st s8 s10 : St} {K G M N n r q : Nat} {e : Nat → Int32} {z : Int32} {Φ : St → Int32 → Prop} (hN : 201 ≤ sN st) (hs : Hs st K G M N) (hr : r < M) (h44 : sI st 0 44 = Int32.ofNat n) (f8 : Fr (fun a j => a = 0 ∧ j = 47) 1 6 st s8) (n8 : sN s8 = sN st + 1) (c8 : sh s8 (sN st) = 9) (v47 : sR s8 0 47 = some (sN st)) (vs : ∀ k, k < 3 → sI s8 (sN st) k = sI st 147 k) (v3 : sI s8 (sN st) 3 = sI st 0 6) (v4 : sI s8 (sN st) 4 = sI st 0 46) (v5 : sR s8 (sN st) 5 = sR st 0 47) (hP : PqK K M N e (gmF st) (sI st 0 6) q z) (f10 : Fr wAp 0 0 s8 s10) (z10 : sI s10 0 6 = z) (h : ∀ sx, XR st sx K M N n r q e z → Φ sx (Int32.ofNat q)) : w_X0_round_b80 Φ s10 (Int32.ofNat r) (Int32.ofNat q) := by
  have hq := pq_lt hs.2.2.2.1 hP
  have q3 := hs.2.2.1
  have hN8 : 201 ≤ sN s8 := Nat.le_trans hN f8.1
  have hN10 : 201 ≤ sN s10 := Nat.le_trans hN8 f10.1
  have F10 : Fr wRy 0 0 s8 s10 := Fr_mo f10 (fun a j h => by unfold wAp wTb wKx wSv at h; unfold wRy; omega) (Nat.le_refl _) (Nat.le_refl _)
  have FF : Fr wRy 1 6 st s10 := Fr_tr (x := 1) (y := 6) (Fr_mo f8 (fun a j h => by unfold wRy; omega) (Nat.le_refl _) (Nat.le_refl _)) F10
  obtain ⟨hs10, g10⟩ := Hs_q FF hN (fun a j h hw => by unfold wRy at hw; omega) hs
  have o8 : ∀ a j, a < 201 → ¬ (a = 0 ∧ j = 47) → sI s8 a j = sI st a j := fun a j ha hw => (fr_at f8 (Or.inl (by omega)) hw).1
  have o10 : ∀ a j, a < sN s8 → ¬ wAp a j → Same s8 s10 a j := fun a j ha hw => fr_at f10 (Or.inl ha) hw
  have nA : ∀ a j, wAp a j → (a = 0 ∧ (j = 6 ∨ j = 8 ∨ j = 9 ∨ j = 16 ∨ j = 17)) ∨ (96 ≤ a ∧ a ≤ 132) := fun a j h => by unfold wAp wTb wKx wSv at h; omega
  refine x_rtail hN10 hs10 (by omega) hq (fun sx fx u46 u44 u147 => ?_)
  have nX : ∀ a j, wRx a j → (a = 147 ∧ j < 3) ∨ (a = 0 ∧ (j = 44 ∨ j = 46)) := fun a j h => h
  have Fx : Fr wRy 0 0 s10 sx := Fr_mo fx (fun a j h => by have := nX a j h; unfold wRy; omega) (Nat.le_refl _) (Nat.le_refl _)
  have aE : ∀ j, Same s8 sx (sN st) j := fun j => fr_at (Fr_tr (x := 0) (y := 0) F10 Fx) (Or.inl (by omega)) (by unfold wRy; omega)
  have hle : sN s8 ≤ sN sx := Nat.le_trans f10.1 fx.1
  refine h sx ⟨Fr_tr (x := 1) (y := 6) FF Fx, by omega, hP, ?_, ?_, u46, ?_, fun k hk => ?_, ?_, fun k hk => ?_, ?_, ?_, ?_⟩
  · rw [(fr_at fx (Or.inl (by omega)) (fun h => by have := nX _ _ h; omega)).1, z10]
  · rw [u44, (o10 0 44 (by omega) (fun h => by have := nA _ _ h; omega)).1, o8 0 44 (by omega) (by omega), h44, succ_of]
  · rw [(fr_at fx (Or.inl (by omega)) (fun h => by have := nX _ _ h; omega)).2.2, (o10 0 47 (by omega) (fun h => by have := nA _ _ h; omega)).2.2, v47]
  · rw [u147 k hk, g10 k r q hk (by omega) hq, (o10 147 k (by omega) (fun h => by have := nA _ _ h; omega)).1, o8 147 k (by omega) (by omega)]
  · rw [((Fr_tr (x := 0) (y := 0) F10 Fx).2.2.2 (sN st) (Or.inl (by omega))).1, c8]
  · rw [(aE k).1, vs k hk]
  · rw [(aE 3).1, v3]
  · rw [(aE 4).1, v4]
  · rw [(aE 5).2.2, v5]
/-- the invariant after a round -/
theorem rd_inv {b : Nat} {st sx sE : St} {K G M N n r q : Nat} {e : Nat → Int32} {z : Int32} (hI : Inv (b + 1) st) (hs : Hs st K G M N) (hr : r < M) (hq : q < 3) (y1 : sI st 0 43 = sI st 175 5) (y2 : sI st 0 43 = 1) (hn : n < 60) (y6 : ∀ k, k < 3 → sI st 147 k = sI st 180 k) (y7 : ∀ k, k < 3 → ∃ z : Int, sI st 147 k = Int32.ofInt z ∧ -(20 * (n : Int)) ≤ z ∧ z ≤ 20 * (n : Int)) (y8 : sI st 0 46 = (if n = 0 then -1 else sI st 181 (5 * (n - 1) + 4))) (y9 : Ws st n (sR st 0 47)) (hg : sN st < gBIG) (hX : XR st sx K M N n r q e z) (FE : Fr (wRm n) 0 0 sx sE) (t6 : sI sE 175 6 = Int32.ofNat (n + 1)) (tz : sI sE 177 96 = z) (w0 : sI sE 181 (5 * n) = sI sx 177 96) (w1 : ∀ k, k < 3 → sI sE 181 (5 * n + 1 + k) = sI sx 180 k) (w4 : sI sE 181 (5 * n + 4) = Int32.ofNat q) (t180 : ∀ k, k < 3 → sI sE 180 k = if k < K then sI sx 180 k + gmF sx k r q else sI sx 180 k) : Inv b sE := by
  obtain ⟨hN, hc1, hc2⟩ := Rm1 hI
  obtain ⟨Fx, nx, -, z6, u44, u46, u47, u147, ux, us, u3, u4, u5⟩ := hX
  have q3 := hs.2.2.1
  have q16 := hs.2.2.2.2.2.2.2.2.2.2.2.2.2.2.2
  have hle := FE.1
  have nY : ∀ a j, wRy a j → (a = 0 ∧ (j = 6 ∨ j = 8 ∨ j = 9 ∨ j = 16 ∨ j = 17 ∨ j = 44 ∨ j = 46 ∨ j = 47)) ∨ (96 ≤ a ∧ a ≤ 132) ∨ (a = 147 ∧ j < 3) := fun a j h => h
  have nM : ∀ a j, wRm n a j → (a = 175 ∧ (j = 6 ∨ (20 < j ∧ j ≤ 30))) ∨ (a = 177 ∧ j = 96) ∨ (a = 180 ∧ j < 3) ∨ (a = 181 ∧ 5 * n ≤ j ∧ j < 5 * n + 5) ∨ (188 ≤ a ∧ a ≤ 193) := fun a j h => h
  have F : Fr (fun a j => wRy a j ∨ wRm n a j) 1 6 st sE := Fr_tr (x := 1) (y := 6) (Fr_mo Fx (fun _ _ h => Or.inl h) (Nat.le_refl _) (Nat.le_refl _)) (Fr_mo FE (fun _ _ h => Or.inr h) (Nat.le_refl _) (Nat.le_refl _))
  have xE : ∀ a j, a < 175 → Same sx sE a j := fun a j h1 => fr_at FE (Or.inl (by omega)) (fun h => by have := nM a j h; omega)
  have mx : ∀ a j, 175 ≤ a → a < 201 → Same st sx a j := fun a j h1 h2 => fr_at Fx (Or.inl (by omega)) (fun h => by have := nY a j h; omega)
  have aE : ∀ j, Same sx sE (sN st) j := fun j => fr_at FE (Or.inl (by omega)) (fun h => by have := nM _ j h; omega)
  have vE : ∀ a j, a < 201 → ¬ wRy a j → ¬ wRm n a j → Same st sE a j := fun a j h1 h2 h3 => fr_at F (Or.inl (by omega)) (fun h => h.elim h2 h3)
  have gx : gmF sx = gmF st := gm_eq Fx hN (fun j h => by have := nY _ _ h; omega)
  have hW : ∀ k, k < 3 → sI sE 181 (5 * n + 1 + k) = sI st 147 k := fun k hk => by
    rw [w1 k hk, (mx 180 k (by omega) (by omega)).1, y6 k hk]
  have nn : ∀ a j, wRy a j ∨ wRm n a j → (a = 0 ∧ (j = 6 ∨ j = 8 ∨ j = 9 ∨ j = 16 ∨ j = 17 ∨ j = 44 ∨ j = 46 ∨ j = 47)) ∨ (96 ≤ a ∧ a ≤ 132) ∨ a = 147 ∨ (a = 175 ∧ (j = 6 ∨ (20 < j ∧ j ≤ 30))) ∨ (a = 177 ∧ j = 96) ∨ a = 180 ∨ (a = 181 ∧ 5 * n ≤ j) ∨ (188 ≤ a ∧ a ≤ 193) := fun a j h => by
    rcases h with h | h
    · have := nY a j h; omega
    · have := nM a j h; omega
  obtain ⟨r1, r2, r3, r4, r5, r6, r7, r8, r9, r10, r11⟩ := Inv_fr hI F (by omega) (by omega) (fun a j h hw => by have := nn a j hw; clear nY nM nn; omega)
  refine ⟨r1, r2, r3 (fun a j h hw => by have := nn a j hw; unfold REr at h; clear nY nM nn; omega), r4 (fun a j h hw => by have := nn a j hw; unfold RHr at h; clear nY nM nn; omega), r5 (fun a j h hw => by have := nn a j hw; unfold RIm at h; clear nY nM nn; omega), ?_, ⟨?_, Or.inr ⟨?_, n + 1, by omega, ?_, t6, fun k hk => ?_, fun k hk => ?_, ?_, ?_⟩⟩, r8 (fun a j h hw => by have := nn a j hw; unfold RTp at h; clear nY nM nn; omega), r9 (fun a j h hw => by have := nn a j hw; unfold RLi at h; clear nY nM nn; omega), r10 (fun a j h hw => by have := nn a j hw; unfold RSx at h; clear nY nM nn; omega), r11 (fun a j h hw => by have := nn a j hw; unfold RNt at h; clear nY nM nn; omega)⟩
  · show sI sE 0 6 = sI sE 177 96
    rw [(xE 0 6 (by omega)).1, z6, tz]
  · rw [(vE 0 43 (by omega) (fun h => by have := nY _ _ h; omega) (fun h => by have := nM _ _ h; omega)).1, (vE 175 5 (by omega) (fun h => by have := nY _ _ h; omega) (fun h => by have := nM _ _ h; omega)).1]; exact y1
  · rw [(vE 0 43 (by omega) (fun h => by have := nY _ _ h; omega) (fun h => by have := nM _ _ h; omega)).1]; exact y2
  · rw [(xE 0 44 (by omega)).1, u44]
  · rw [(xE 147 k (by omega)).1, u147 k hk, t180 k hk, gx, (mx 180 k (by omega) (by omega)).1, y6 k hk]
  · obtain ⟨zz, e1, e2, e3⟩ := y7 k hk
    obtain ⟨b1, b2⟩ := q16 k r q hk (by omega) hq
    rw [(xE 147 k (by omega)).1, u147 k hk]
    by_cases e : k < K
    · refine ⟨zz + (gmF st k r q).toInt, ?_, by push_cast; omega, by push_cast; omega⟩
      rw [if_pos e, e1, Int32.ofInt_add, Int32.ofInt_toInt]
    · refine ⟨zz, by rw [if_neg e]; exact e1, by push_cast; omega, by push_cast; omega⟩
  · rw [(xE 0 46 (by omega)).1, u46, if_neg (by omega), Nat.add_sub_cancel, w4]
  · rw [(xE 0 47 (by omega)).2.2, u47]
    refine ⟨sN st, rfl, hN, by omega, hg, ?_, fun k hk => ⟨?_, ?_⟩, ?_, ?_, ?_⟩
    · rw [(FE.2.2.2 (sN st) (Or.inl (by omega))).1, ux]
    · rw [(aE k).1, us k hk, hW k hk]
    · rw [hW k hk]; exact y7 k hk
    · rw [(aE 3).1, u3, w0, (mx 177 96 (by omega) (by omega)).1]; exact iZz hI
    · rw [(aE 4).1, u4, y8]
      by_cases e : n = 0
      · rw [if_pos e, if_pos e]
      · rw [if_neg e, if_neg e, (vE 181 _ (by omega) (fun h => by have := nY _ _ h; omega) (fun h => by have := nM _ _ h; omega)).1]
    · rw [(aE 5).2.2, u5]
      exact Ws_fn F hN n (fun a j h hw => by have := nn a j hw; clear nY nM nn; omega) n _ (Nat.le_refl _) y9
theorem o_round {b : Nat} {st : St} {p1 : Int32} {K E : St → Prop} (hI : Inv (b + 1) st) (hK' : ∀ s, Inv b s → K s) : w_X0_round st p1 (fun s r => w_X4_round s p1 (fun s' r' => (r = r' → K s') ∧ (¬ r = r' → E s'))) := by
  obtain ⟨hN, hc1, hc2⟩ := Rm1 hI
  obtain ⟨K', G, M, N, hs⟩ := Hs_of hI
  have q1 := hs.1
  have q3 := hs.2.2.1
  have q4 := hs.2.2.2.1
  have q7 := hs.2.2.2.2.2.2.1
  have q9 := hs.2.2.2.2.2.2.2.2.1
  have q11 := hs.2.2.2.2.2.2.2.2.2.2.1
  have q16 := hs.2.2.2.2.2.2.2.2.2.2.2.2.2.2.2
  have htg : ∀ k, k < 3 → sI st (2 + 14) k = sI st 177 (32 + k) ∧ -99 ≤ (sI st (2 + 14) k).toInt ∧ (sI st (2 + 14) k).toInt ≤ 99 := fun k hk => by
    obtain ⟨-, -, -, -, ⟨-, -, -, -, -, -, -, -, -, -, t1⟩, ⟨-, -, -, t2⟩, -, -⟩ := iHr hI
    obtain ⟨t3, t4⟩ := t1 (32 + k) (by omega) (by omega)
    rw [Int32.le_iff_toInt_le] at t3 t4
    rw [t2 k hk]
    exact ⟨rfl, t3, t4⟩
  obtain ⟨y1, y2⟩ := iPy hI
  unfold w_X0_round
  rcases y2 with y2 | ⟨y2, n, y3, y4, y5, y6, y7, y8, y9⟩
  · rw [y2]
    refine needI (c := false) (k := 2) (M := fun s Ψ => w_X4_round s p1 Ψ) hI hK' (by decide) (fun h => by cases h) (fun _ s2 f2 Φ h => ?_)
    show w_X4_round s2 _ _
    have e5 : sI s2 175 5 = 0 := ((q_at f2 hN (by omega) (nQ_Py (by unfold RPy; omega)) (by omega)).1.trans y1.symm).trans y2
    unfold w_X4_round
    rw [e5]
    exact ⟨fun h => absurd rfl h, fun _ => h⟩
  · have h5 : sI st 175 5 ≠ 0 := by rw [← y1, y2]; decide
    rw [y2]
    refine need_1 ?_
    rw [pe_X1_isRow, q11, sub1_64 (by omega) (by omega)]
    unfold w_X0_must
    refine needI (k := 1) (M := fun s Ψ => w_X4_round s p1 Ψ) hI hK' (by decide) (fun hc => ?_) (fun hc s2 f2 Φ h => ?_)
    · have hc' := hc
      obtain ⟨r, r1, rfl⟩ := inB_nat (m := M - 1) (by omega) rfl hc
      dsimp only
      rw [y4, show (60 : Int32) = Int32.ofNat 60 from rfl, le_of (by omega) (by omega)]
      refine ⟨fun h60 => ?_, fun h60 => ?_⟩
      · unfold w_X0_round_b33
        refine needI (c := false) (k := 4) (M := fun s Ψ => w_X4_round s (Int32.ofNat r) Ψ) hI hK' (by decide) (fun h => by cases h) (fun _ s2 f2 Φ h => ?_)
        show w_X4_round s2 _ _
        have e5 : sI s2 175 5 = sI st 175 5 := (q_at f2 hN (by omega) (nQ_Py (by unfold RPy; omega)) (by omega)).1
        have e6 : sI s2 175 6 = Int32.ofNat 60 := (q_at f2 hN (by omega) (nQ_Py (by unfold RPy; omega)) (by omega)).1.trans (y5.trans (by rw [show n = 60 by omega]))
        have e7 : sI s2 177 2 = Int32.ofNat M := (q_at f2 hN (by omega) (nQ_177 (by omega)) (by omega)).1.trans q7
        unfold w_X4_round
        rw [e5, e6, e7, sub1_64 (by omega) (by omega), pe_X4_isIn, hc', ib_nz, ib_z]
        exact ⟨fun _ => ⟨fun _ => ⟨fun h => absurd rfl h, fun _ => h⟩, fun h => (by cases h)⟩, fun h => absurd h h5⟩
      · unfold w_X0_round_b33
        refine need_1 ⟨by omega, by omega, ?_⟩
        rintro _ rfl
        have hg : sN st < gBIG := by unfold gCAP at hc1; unfold gBIG; omega
        refine s_was hN hg (fun s8 f8 n8 c8 v47 vs v3 v4 v5 => ?_)
        have hN8 : 201 ≤ sN s8 := Nat.le_trans hN f8.1
        obtain ⟨hs8, -⟩ := Hs_q f8 hN (fun a j h hw => by omega) hs
        have g8 : gmF s8 = gmF st := gm_eq f8 hN (fun j hw => by omega)
        have o8 : ∀ a j, a < 201 → ¬ (a = 0 ∧ j = 47) → sI s8 a j = sI st a j := fun a j ha hw => (fr_at f8 (Or.inl (by omega)) hw).1
        have x8 : ∀ k, k < 3 → exX s8 k = exV (sI st 147 k - Int32.ofNat n * sI st (2 + 14) k) := fun k hk => by
          unfold exX
          rw [o8 147 k (by omega) (by omega), o8 0 44 (by omega) (by omega), o8 (2 + 14) k (by omega) (by omega), y4]
        have xb : ∀ k, k < 3 → 0 ≤ (exX s8 k).toInt ∧ (exX s8 k).toInt ≤ 7140 := fun k hk => exX_b y3 (by rw [o8 0 44 (by omega) (by omega)]; exact y4) (by rw [o8 147 k (by omega) (by omega)]; exact y7 k hk) (by rw [o8 (2 + 14) k (by omega) (by omega)]; exact (htg k hk).2)
        have hb : ∀ r c, r < M → c < N → bd (exT K' (exX s8) (gmF st) r c).toInt := fun r c hr hc => by
          have h9 := exT_b (e := exX s8) (f := gmF st) (r := r) (c := c) K' (by omega) (fun i hi => ⟨xb i (by omega), q16 i r c (by omega) (by omega) (by omega)⟩)
          unfold bd; omega
        have z8 : sI s8 0 6 = sI st 0 6 := o8 0 6 (by omega) (by omega)
        refine s_allExcess q1 ((o8 2 0 (by omega) (by omega)).trans q9) ?_
        have fin : ∀ q z sx, XR st sx K' M N n r q (exX s8) z → w_X4_round sx (Int32.ofNat r) (fun s' r' => (Int32.ofNat q = r' → K s') ∧ (¬ Int32.ofNat q = r' → E s')) := fun q z sx hX => by
          have hX' := hX
          obtain ⟨Fx, nx, hP, -⟩ := hX'
          have hq := pq_lt q4 hP
          obtain ⟨hsx, -⟩ := Hs_q Fx hN (fun a j h hw => by unfold wRy at hw; omega) hs
          have gx : gmF sx = gmF st := gm_eq Fx hN (fun j hw => by unfold wRy at hw; omega)
          have mx : ∀ a j, 175 ≤ a → a < 201 → sI sx a j = sI st a j := fun a j h1 h2 => (fr_at Fx (Or.inl (by omega)) (fun h => by unfold wRy at h; omega)).1
          refine m_round (q := q) (z := z) (e := exX s8) (f := gmF st) (n := n) (by omega) hsx (by rw [mx 175 5 (by omega) (by omega)]; exact h5) (by rw [mx 175 6 (by omega) (by omega)]; exact y5) (by omega) (by omega) (fun k hk => ?_) gx hb (by rw [mx 177 96 (by omega) (by omega), ← iZz hI]; exact hP) (fun sE FE t6 tz w0 w1 w4 t180 => ⟨fun _ => hK' _ (rd_inv hI hs (by omega) hq y1 y2 (by omega) y6 y7 y8 y9 hg hX FE t6 tz w0 w1 w4 t180), fun h => absurd rfl h⟩)
          rw [x8 k (by omega)]
          unfold exM
          rw [mx 180 k (by omega) (by omega), mx 175 6 (by omega) (by omega), mx 177 (32 + k) (by omega) (by omega), y5, ← y6 k (by omega), (htg k (by omega)).1]
        refine ⟨fun hne => ?_, fun he => ?_⟩
        · obtain ⟨n', a', c', k', hS⟩ := stop_ex (h := M) (w := N) (by omega) q4 hb (zNx (sI st 0 6))
          refine x_appr (n := n') (a := a') (c := c') (k := k') hN8 hs8 (by rw [z8, g8]; exact hS) (fun s10 f10 z10 => ?_)
          exact x_rfin hN hs (by omega) y4 f8 n8 c8 v47 vs v3 v4 v5 (Or.inr ⟨hne, n', a', c', k', hS, rfl, rfl⟩) f10 (by rw [z10, z8]) (fun sx hX => fin _ _ sx hX)
        · exact x_rfin (q := 0) hN hs (by omega) y4 f8 n8 c8 v47 vs v3 v4 v5 (Or.inl ⟨he, rfl, rfl⟩) (Fr_rf (st := s8)) z8 (fun sx hX => fin _ _ sx hX)
    · show w_X4_round s2 _ _
      have e5 : sI s2 175 5 = sI st 175 5 := (q_at f2 hN (by omega) (nQ_Py (by unfold RPy; omega)) (by omega)).1
      have e7 : sI s2 177 2 = Int32.ofNat M := (q_at f2 hN (by omega) (nQ_177 (by omega)) (by omega)).1.trans q7
      unfold w_X4_round
      rw [e5, e7, sub1_64 (by omega) (by omega), pe_X4_isIn, hc, ib_nz, ib_z]
      exact ⟨fun _ => ⟨fun h => (by cases h), fun _ => h⟩, fun h => absurd h h5⟩
