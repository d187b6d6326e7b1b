/-! PLAIN LAW, 48: the column that is played, on both sides -/
set_option maxRecDepth 100000
theorem exT_cg {K : Nat} {e e' : Nat → Int32} {f f' : Nat → Nat → Nat → Int32} (he : ∀ k, k < K → e k = e' k) (hf : f = f') : exT K e f = exT K e' f' := by
  funext r c
  unfold exT
  exact smL_cg K (fun k hk => by rw [he k hk, hf])
def zNx (z : Int32) : Int32 := z * 1103515245 + 12345
def wAp (a j : Nat) : Prop := wTb a j ∨ wKx a j ∨ (a = 0 ∧ j = 6)
def wAm (a j : Nat) : Prop := wTm a j ∨ wKy a j ∨ (a = 177 ∧ j = 96)
/-- kernel and stop -/
def StpK (T : Nat → Nat → Int64) (M N : Nat) (z : Int32) (n : Nat) (a c : List Nat) (k : Nat) : Prop := fsN T M N 4 1 = some (n, a, c) ∧ (1 ≤ n ∧ n ≤ 3) ∧ okE n a ∧ okE n c ∧ setN a < 2 ^ M ∧ setN c < 2 ^ N ∧ 1 ≤ (kTot T n (gD a) (gD c)).toInt ∧ k < n ∧ (∀ j, j < k → 1000 * smL (kCw T n (gD a) (gD c)) (j + 1) ≤ drw z * kTot T n (gD a) (gD c)) ∧ (¬ 1000 * smL (kCw T n (gD a) (gD c)) (k + 1) ≤ drw z * kTot T n (gD a) (gD c)) ∧ 0 ≤ drw z * kTot T n (gD a) (gD c)
theorem x_appr {st : St} {K G M N n k : Nat} {a c : List Nat} {Φ : St → Int32 → Prop} {Φw : St → Nat → Prop} (hN : 201 ≤ sN st) (hs : Hs st K G M N) (hS : StpK (exT K (exX st) (gmF st)) M N (zNx (sI st 0 6)) n a c k) (h : ∀ s, Fr wAp 0 0 st s → sI s 0 6 = zNx (sI st 0 6) → Φ s (Int32.ofNat (gD c k))) : w_X0_approaches st Φ Φw := by
  obtain ⟨hf, g1, g2, g3, g4, g5, t1, k1, k2, k3, k4⟩ := hS
  have hJ := set_lt g3 g5
  have q3 := hs.2.2.1
  have q4 := hs.2.2.2.1
  unfold w_X0_approaches
  refine s_laysExcess hN hs (fun s2 f2 T2 => ?_)
  have hN2 : 201 ≤ sN s2 := Nat.le_trans hN f2.1
  refine x_kernel hN2 (by omega) (by omega) T2 (fun n' a' c' hf' s10 hF => ?_) (by rw [hf]; simp)
  rw [hf] at hf'
  cases hf'
  obtain ⟨f10, v16, v17, v3, v4⟩ := hF
  have F10 : Fr wAp 0 0 st s10 := Fr_tr (x := 0) (y := 0) (Fr_mo f2 (fun _ _ h => Or.inl h) (Nat.le_refl _) (Nat.le_refl _)) (Fr_mo f10 (fun _ _ h => Or.inr (Or.inl h)) (Nat.le_refl _) (Nat.le_refl _))
  have e6 : sI s10 0 6 = sI st 0 6 := by
    rw [(fr_at f10 (Or.inl (by omega)) (by unfold wKx wSv; omega)).1, (fr_at f2 (Or.inl (by omega)) (by unfold wTb; omega)).1]
  rw [e6]
  rintro _ rfl
  have e7 : sI (putI s10 0 6 (sI st 0 6 * 1103515245 + 12345)) 0 6 = zNx (sI st 0 6) := by rw [gI_pI, if_pos ⟨rfl, rfl⟩]; rfl
  rw [e7]
  intro v19 e19
  have e20 : v19 = drw (zNx (sI st 0 6)) := e19
  subst e20
  refine x_stop (W := kCw (exT K (exX st) (gmF st)) n (gD a) (gD c)) g1.2 k1 (fun i hi => by rw [gL_pI]; exact (v3 i hi).2) (fun j hj => by rw [gL_pI, v16]; exact k2 j hj) (by rw [gL_pI, v16]; exact k3) ?_
  unfold w_X0_approaches_b78
  rw [vp_of (by omega), nn_of (by omega), gI_pI, if_neg (by omega), (v4 k k1).2]
  exact ⟨by omega, h _ (Fr_I F10 (Or.inl (Or.inr (Or.inr ⟨rfl, rfl⟩)))) e7⟩
theorem m_answer {st : St} {K G M N n k : Nat} {a c : List Nat} {Φ : St → Int32 → Prop} (hN : 201 ≤ sN st) (hs : Hs st K G M N) (hb : ∀ r c, r < M → c < N → bd (exT K (exM st) (gmF st) r c).toInt) (h0 : smI (exM st) K = 0 → Φ st 0) (hS : smI (exM st) K ≠ 0 → StpK (exT K (exM st) (gmF st)) M N (zNx (sI st 177 96)) n a c k) (h : smI (exM st) K ≠ 0 → ∀ s, Fr wAm 0 0 st s → sI s 177 96 = zNx (sI st 177 96) → Φ s (Int32.ofNat (gD c k))) : w_X4_answer st Φ := by
  have q1 := hs.1
  have q3 := hs.2.2.1
  have q4 := hs.2.2.2.1
  have q5 := hs.2.2.2.2.1
  have q8 := hs.2.2.2.2.2.2.2.1
  unfold w_X4_answer
  refine s_aboveAll q1 q5 ⟨fun hne => ?_, fun he => h0 he⟩
  obtain ⟨hf, g1, g2, g3, g4, g5, t1, k1, k2, k3, k4⟩ := hS hne
  have hJ := set_lt g3 g5
  refine s_answer_lay hN hs (fun s2 f2 T2 => ?_)
  have hN2 : 201 ≤ sN s2 := Nat.le_trans hN f2.1
  unfold w_X4_answer_b122
  refine m_kernel hN2 (by omega) (by omega) T2 (hBd_ok hb) (fun n' a' c' hf' s10 hF => ?_) (by rw [hf]; simp)
  rw [hf] at hf'
  cases hf'
  obtain ⟨f10, v29, v30, v3, v4, v5⟩ := hF
  have F10 : Fr wAm 0 0 st s10 := Fr_tr (x := 0) (y := 0) (Fr_mo f2 (fun _ _ h => Or.inl h) (Nat.le_refl _) (Nat.le_refl _)) (Fr_mo f10 (fun _ _ h => Or.inr (Or.inl h)) (Nat.le_refl _) (Nat.le_refl _))
  have old : ∀ j, sI s10 177 j = sI st 177 j := fun j => by
    rw [(fr_at f10 (Or.inl (by omega)) (by unfold wKy wKm; omega)).1, (fr_at f2 (Or.inl (by omega)) (by unfold wTm; omega)).1]
  rw [old 96]
  rintro _ rfl
  have e7 : sI (putI s10 177 96 (sI st 177 96 * 1103515245 + 12345)) 177 96 = zNx (sI st 177 96) := by rw [gI_pI, if_pos ⟨rfl, rfl⟩]; rfl
  rw [e7]
  intro v19 e19
  have e20 : v19 = drw (zNx (sI st 177 96)) := e19
  subst e20
  obtain ⟨p1, p2⟩ := part_sum (f := fun c => sL s10 192 c) (J := gD c) (W := kCw (exT K (exM st) (gmF st)) n (gD a) (gD c)) (n := n) (N := N) g3.2.1 (fun k hk => (v3 k hk).1) (fun c' hc' hne => v4 c' (by omega) hne) k1 hJ
  have eL : (fun c' => sL (putI s10 177 96 (sI st 177 96 * 1103515245 + 12345)) 192 c') = fun c' => sL s10 192 c' := by funext c'; rw [gL_pI]
  refine m_stop (q := gD c k) (by omega) (hJ k k1) (by rw [gI_pI, if_neg (by omega), old 3]; exact q8) (fun j hj => ?_) ?_ ?_
  · rw [eL, gL_pI, v29]
    obtain ⟨i, i1, i2⟩ := p2 (j + 1) (by omega)
    rw [i2, Int64.mul_comm]
    cases i with
    | zero =>
      have : (1000 : Int64) * smL (kCw (exT K (exM st) (gmF st)) n (gD a) (gD c)) 0 = 0 := Int64.mul_zero
      rw [this]; exact k4
    | succ i => exact k2 i (by omega)
  · rw [eL, gL_pI, v29, p1, Int64.mul_comm]; exact k3
  · unfold w_X4_answer_b205
    exact h hne _ (Fr_I F10 (Or.inl (Or.inr (Or.inr ⟨rfl, rfl⟩)))) e7
/-- how far above the targets: small -/
theorem exX_b {st : St} {n k : Nat} (hn : n ≤ 60) (h44 : sI st 0 44 = Int32.ofNat n) (hs : ∃ z : Int, sI st 147 k = Int32.ofInt z ∧ -(20 * (n : Int)) ≤ z ∧ z ≤ 20 * (n : Int)) (ht : -99 ≤ (sI st (2 + 14) k).toInt ∧ (sI st (2 + 14) k).toInt ≤ 99) : 0 ≤ (exX st k).toInt ∧ (exX st k).toInt ≤ 7140 := by
  obtain ⟨z, z1, z2, z3⟩ := hs
  have hz : (Int32.ofInt z).toInt = z := by rw [Int32.toInt_ofInt]; exact Int.bmod_eq_of_le (by show -(2 ^ 32 / 2 : Int) ≤ z; omega) (by show z < (2 ^ 32 + 1) / 2; omega)
  have hp : (((n : Nat) : Int) * (sI st (2 + 14) k).toInt).natAbs ≤ 60 * 99 := by rw [Int.natAbs_mul]; exact Nat.mul_le_mul (by omega) (by omega)
  have hm : (sI st 0 44 * sI st (2 + 14) k).toInt = ((n : Nat) : Int) * (sI st (2 + 14) k).toInt := by
    rw [Int32.toInt_mul, h44, ti_of (by omega)]; exact Int.bmod_eq_of_le (by omega) (by omega)
  have e : (sI st 147 k - sI st 0 44 * sI st (2 + 14) k).toInt = z - ((n : Nat) : Int) * (sI st (2 + 14) k).toInt := by
    rw [Int32.toInt_sub, hm, z1, hz]; exact Int.bmod_eq_of_le (by omega) (by omega)
  unfold exX exV
  split
  · rename_i h
    rw [Int32.lt_iff_toInt_lt] at h
    rw [e]
    rw [e] at h
    have h : 0 < z - ((n : Nat) : Int) * (sI st (2 + 14) k).toInt := h
    omega
  · show 0 ≤ (0 : Int) ∧ (0 : Int) ≤ 7140; omega
