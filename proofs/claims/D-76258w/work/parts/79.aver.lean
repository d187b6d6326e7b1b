/-! PLAIN LAW, 40: what is found; lowest terms; tables of averages -/
set_option maxRecDepth 100000
theorem fsJ_ok {P : List Nat → Bool} {b : Nat} : ∀ (l : List (List Nat)) (c : List Nat), fsJ P b l = some c → c ∈ l ∧ setN c < b ∧ P c = true
  | [], c, h => by cases h
  | d :: l, c, h => by
    rw [fsJ] at h
    by_cases e : setN d < b
    · rw [if_pos e] at h
      by_cases e2 : P d = true
      · rw [if_pos e2] at h; cases h; exact ⟨List.mem_cons_self .., e, e2⟩
      · rw [if_neg e2] at h
        obtain ⟨h1, h2⟩ := fsJ_ok l c h
        exact ⟨List.mem_cons_of_mem _ h1, h2⟩
    · rw [if_neg e] at h; cases h
theorem fsI_ok {Q : List Nat → Option (List Nat)} {b : Nat} : ∀ (l : List (List Nat)) (a c : List Nat), fsI Q b l = some (a, c) → a ∈ l ∧ setN a < b ∧ Q a = some c
  | [], a, c, h => by cases h
  | d :: l, a, c, h => by
    rw [fsI] at h
    by_cases e : setN d < b
    · rw [if_pos e] at h
      cases hq : Q d with
      | none =>
        rw [hq] at h
        obtain ⟨h1, h2⟩ := fsI_ok l a c h
        exact ⟨List.mem_cons_of_mem _ h1, h2⟩
      | some f => rw [hq] at h; cases h; exact ⟨List.mem_cons_self .., e, hq⟩
    · rw [if_neg e] at h; cases h
theorem fsN_ok {T : Nat → Nat → Int64} {h w : Nat} (hw : w ≤ 3) : ∀ (k m n : Nat) (a c : List Nat), 1 ≤ m → fsN T h w k m = some (n, a, c) → (1 ≤ n ∧ n ≤ 3) ∧ okE n a ∧ okE n c ∧ setN a < 2 ^ h ∧ setN c < 2 ^ w ∧ kOK T h w n (gD a) (gD c) = true
  | 0, m, n, a, c, _, hf => by cases hf
  | k + 1, m, n, a, c, hm, hf => by
    rw [fsN] at hf
    by_cases e1 : w < m
    · rw [if_pos e1] at hf; cases hf
    · rw [if_neg e1] at hf
      by_cases e2 : h < m
      · rw [if_pos e2] at hf; cases hf
      · rw [if_neg e2] at hf
        cases hi : fsI (kQ T h w m) (2 ^ h) (ens m) with
        | none => rw [hi] at hf; exact fsN_ok hw k (m + 1) n a c (by omega) hf
        | some p =>
          obtain ⟨p1, p2⟩ := p
          rw [hi] at hf
          cases hf
          obtain ⟨h1, h2, h3⟩ := fsI_ok _ _ _ hi
          obtain ⟨g1, g2, g3⟩ := fsJ_ok _ _ h3
          exact ⟨⟨hm, by omega⟩, ens_ok m _ h1, ens_ok m _ g1, h2, g2, g3⟩
/-- what is found has numbers above 0 -/
theorem kT_pos {T : Nat → Nat → Int64} {h w n : Nat} {I J : Nat → Nat} (hn : 1 ≤ n ∧ n ≤ 3) (hb : ∀ r c, r < h → c < w → bd (T r c).toInt) (hI : ∀ i, i < n → I i < h) (hJ : ∀ i, i < n → J i < w) (hk : kOK T h w n I J = true) : 1 ≤ (kTot T n I J).toInt ∧ (kTot T n I J).toInt ≤ 3303478080000 ∧ -471736669824000000 ≤ (kWo T n I J).toInt ∧ (kWo T n I J).toInt ≤ 471736669824000000 := by
  have ht : ∀ i j, i < n → j < n → bd (tQ T I J i j) := fun i j hi hj => hb _ _ (hI i hi) (hJ j hj)
  obtain ⟨z1, z2, z3, z4⟩ := zb n hn _ ht
  obtain ⟨-, k2, k3, k4, k5, k6⟩ := k_ok hn ht
  unfold kOK at hk
  simp only [Bool.and_eq_true, decide_eq_true_eq] at hk
  have hx := hk.1.1.1
  rw [ne_eq, eq64z, k6] at hx
  rw [k2, k3, ti_ofI, ti_ofI, bm_fit (by unfold fit; omega), bm_fit (by unfold fit; omega)]
  refine ⟨?_, z1.2, z2.1, z2.2⟩
  unfold toZ sgZ
  split <;> omega
/-! lowest terms -/
theorem low_ex {u w : Int64} (hw : 0 < w.toInt) : ∃ g a b : Int, 0 < g ∧ u.toInt = g * a ∧ w.toInt = g * b ∧ 0 < b ∧ Nat.gcd a.natAbs b.natAbs = 1 ∧ (lowR u w).1.toInt = a ∧ (lowR u w).2.toInt = b := by
  obtain ⟨e1, e2⟩ := gcd_pos (a := u) (b := w) hw
  have hg : 0 < Nat.gcd u.toInt.natAbs w.toInt.natAbs := Nat.gcd_pos_of_pos_right _ (by omega)
  obtain ⟨a', ha'⟩ := Int.ofNat_dvd_left.mpr (Nat.gcd_dvd_left u.toInt.natAbs w.toInt.natAbs)
  obtain ⟨b', hb'⟩ := Int.ofNat_dvd_left.mpr (Nat.gcd_dvd_right u.toInt.natAbs w.toInt.natAbs)
  have hfu := lfit u
  have hfw := lfit w
  generalize hgg : Nat.gcd u.toInt.natAbs w.toInt.natAbs = g at *
  have hgpos : (0 : Int) < (g : Int) := by omega
  have hbpos : 0 < b' := by
    rw [hb'] at hw
    exact Int.pos_of_mul_pos_right hw (by omega) |> fun h => h
  refine ⟨(g : Int), a', b', hgpos, ha', hb', hbpos, ?_, ?_, ?_⟩
  · have h1 : Nat.gcd (g * a'.natAbs) (g * b'.natAbs) = g := by
      have : u.toInt.natAbs = g * a'.natAbs := by rw [ha', Int.natAbs_mul]; rfl
      have h2 : w.toInt.natAbs = g * b'.natAbs := by rw [hb', Int.natAbs_mul]; rfl
      rw [← this, ← h2]; exact hgg
    rw [Nat.gcd_mul_left] at h1
    have h3 : g * Nat.gcd a'.natAbs b'.natAbs = g * 1 := by rw [h1, Nat.mul_one]
    exact Nat.eq_of_mul_eq_mul_left hg h3
  · unfold lowR
    dsimp only
    rw [tdiv64, e1]
    have h5 : u.toInt.tdiv (g : Int) = a' := by rw [ha']; exact Int.mul_tdiv_cancel_left _ (by omega)
    rw [h5]
    apply bm_fit
    have : a'.natAbs ≤ u.toInt.natAbs := by rw [ha', Int.natAbs_mul]; exact Nat.le_mul_of_pos_left _ (by omega)
    unfold fit at *
    by_cases h0 : a' < 0
    · have : u.toInt < 0 ∨ 0 ≤ u.toInt := by omega
      omega
    · have hnn : 0 ≤ u.toInt := by rw [ha']; exact Int.mul_nonneg (by omega) (by omega)
      omega
  · unfold lowR
    dsimp only
    rw [tdiv64, e1]
    have h5 : w.toInt.tdiv (g : Int) = b' := by rw [hb']; exact Int.mul_tdiv_cancel_left _ (by omega)
    rw [h5]
    apply bm_fit
    have : b'.natAbs ≤ w.toInt.natAbs := by rw [hb', Int.natAbs_mul]; exact Nat.le_mul_of_pos_left _ (by omega)
    unfold fit at *
    omega
theorem cop_eq {a b c d : Int} (hb : 0 < b) (hd : 0 < d) (h1 : Nat.gcd a.natAbs b.natAbs = 1) (h2 : Nat.gcd c.natAbs d.natAbs = 1) (h : a * d = c * b) : a = c ∧ b = d := by
  have hn : a.natAbs * d.natAbs = c.natAbs * b.natAbs := by rw [← Int.natAbs_mul, ← Int.natAbs_mul, h]
  have k1 : b.natAbs ∣ d.natAbs := by
    have : b.natAbs ∣ a.natAbs * d.natAbs := ⟨c.natAbs, by rw [hn, Nat.mul_comm]⟩
    exact Nat.Coprime.dvd_of_dvd_mul_left (by rw [Nat.coprime_iff_gcd_eq_one, Nat.gcd_comm]; exact h1) this
  have k2 : d.natAbs ∣ b.natAbs := by
    have : d.natAbs ∣ c.natAbs * b.natAbs := ⟨a.natAbs, by rw [← hn, Nat.mul_comm]⟩
    exact Nat.Coprime.dvd_of_dvd_mul_left (by rw [Nat.coprime_iff_gcd_eq_one, Nat.gcd_comm]; exact h2) this
  have k3 : b.natAbs = d.natAbs := Nat.dvd_antisymm k1 k2
  have k4 : b = d := by omega
  refine ⟨?_, k4⟩
  rw [k4] at h
  exact Int.eq_of_mul_eq_mul_right (by omega) h
/-- equal fractions are the same in lowest terms -/
theorem low_cg {u w u' w' : Int64} (hw : 0 < w.toInt) (hw' : 0 < w'.toInt) (h : u.toInt * w'.toInt = u'.toInt * w.toInt) : lowR u w = lowR u' w' := by
  obtain ⟨g, a, b, g0, e1, e2, b0, c1, r1, r2⟩ := low_ex (u := u) hw
  obtain ⟨g', a', b', g0', e1', e2', b0', c1', r1', r2'⟩ := low_ex (u := u') hw'
  have hh : a * b' = a' * b := by
    rw [e1, e2, e1', e2'] at h
    have h2 : (g * g') * (a * b') = (g * g') * (a' * b) := by grind
    exact Int.eq_of_mul_eq_mul_left (by have := Int.mul_pos g0 g0'; omega) h2
  obtain ⟨q1, q2⟩ := cop_eq b0 b0' c1 c1' hh
  have p1 : (lowR u w).1 = (lowR u' w').1 := ofI_inj (by rw [r1, r1', q1])
  have p2 : (lowR u w).2 = (lowR u' w').2 := ofI_inj (by rw [r2, r2', q2])
  exact Prod.ext p1 p2
theorem low_pos {u w : Int64} (hw : 0 < w.toInt) : 0 < (lowR u w).2.toInt ∧ (lowR u w).2.toInt ≤ w.toInt ∧ (lowR u w).1.toInt.natAbs ≤ u.toInt.natAbs ∧ (lowR u w).1.toInt * w.toInt = u.toInt * (lowR u w).2.toInt := by
  obtain ⟨g, a, b, g0, e1, e2, b0, c1, r1, r2⟩ := low_ex (u := u) hw
  rw [r1, r2]
  refine ⟨b0, ?_, ?_, by rw [e1, e2]; grind⟩
  · rw [e2]
    have := Int.mul_le_mul_of_nonneg_right (show (1 : Int) ≤ g by omega) (show 0 ≤ b by omega)
    omega
  · rw [e1, Int.natAbs_mul]; exact Nat.le_mul_of_pos_left _ (by omega)
/-! averages -/
def gmF (st : St) (g r c : Nat) : Int32 := sI st 177 (4 + 9 * g + 3 * r + c)
def avT (K G p : Nat) (f : Nat → Nat → Nat → Int32) (r c : Nat) : Int64 := (avS K G p (fun k => f k r c) K).toInt64
theorem avS_b {K G p : Nat} {f : Nat → Int32} : ∀ k, k ≤ 3 → (∀ i, i < k → ptV K G p i ≤ 4 ∧ -20 ≤ (f i).toInt ∧ (f i).toInt ≤ 20) → -(80 * (k : Int)) ≤ (avS K G p f k).toInt ∧ (avS K G p f k).toInt ≤ 80 * (k : Int)
  | 0, _, _ => by show -(80 * (0 : Int)) ≤ 0 ∧ (0 : Int) ≤ 80 * 0; omega
  | k + 1, hk, h => by
    obtain ⟨i1, i2⟩ := avS_b k (by omega) (fun i hi => h i (by omega))
    obtain ⟨h1, h2, h3⟩ := h k (by omega)
    have hp : (((ptV K G p k : Nat) : Int) * (f k).toInt).natAbs ≤ 4 * 20 := by rw [Int.natAbs_mul]; exact Nat.mul_le_mul (by omega) (by omega)
    have e : (Int32.ofNat (ptV K G p k) * f k).toInt = ((ptV K G p k : Nat) : Int) * (f k).toInt := by
      rw [Int32.toInt_mul, ti_of (by omega)]; exact Int.bmod_eq_of_le (by omega) (by omega)
    rw [avS, Int32.toInt_add, e, Int.bmod_eq_of_le (by omega) (by omega)]
    push_cast
    omega
def wTb (a j : Nat) : Prop := (a = 0 ∧ (j = 8 ∨ j = 9)) ∨ (96 ≤ a ∧ a < 123 ∧ j < 3)
theorem s_laysAverage {st : St} {K G M N p : Nat} {Φ : St → Prop} (hN : 201 ≤ sN st) (hK : K = 2 ∨ K = 3) (hM : 1 ≤ M ∧ M ≤ 3) (hn : 1 ≤ N ∧ N ≤ 3) (hp : p < 15) (e0 : sI st 2 0 = Int32.ofNat K) (e2 : sI st 2 2 = Int32.ofNat M) (e3 : sI st 2 3 = Int32.ofNat N) (eg : ∀ k, k < 3 → sI st (2 + (16 + p)) k = Int32.ofNat (ptV K G p k)) (ec : ∀ g r c, g < 3 → r < 3 → c < 3 → sI st (2 + (3 + 4 * g + r)) c = gmF st g r c) (h : ∀ s, Fr wTb 0 0 st s → Tb s (avT K G p (gmF st)) M N → Φ s) : w_X0_laysAverage st (Int32.ofNat p) Φ := by
  unfold w_X0_laysAverage
  rintro _ rfl _ rfl
  have e23 : sI (putI st 0 8 (sI st 2 2)) 2 3 = Int32.ofNat N := by rw [gI_pI, if_neg (by omega)]; exact e3
  rw [e23, e2]
  have f0 : Fr wTb 0 0 st (putI (putI st 0 8 (Int32.ofNat M)) 0 9 (Int32.ofNat N)) := Fr_I (Fr_I Fr_rf (Or.inl (Or.inl ⟨rfl, Or.inl rfl⟩))) (Or.inl (Or.inl ⟨rfl, Or.inr rfl⟩))
  have x8 : sI (putI (putI st 0 8 (Int32.ofNat M)) 0 9 (Int32.ofNat N)) 0 8 = Int32.ofNat M := by rw [gI_pI, if_neg (by omega), gI_pI, if_pos ⟨rfl, rfl⟩]
  have x9 : sI (putI (putI st 0 8 (Int32.ofNat M)) 0 9 (Int32.ofNat N)) 0 9 = Int32.ofNat N := by rw [gI_pI, if_pos ⟨rfl, rfl⟩]
  generalize putI (putI st 0 8 (Int32.ofNat M)) 0 9 (Int32.ofNat N) = s0 at f0 x8 x9
  refine loop_up (α := St × Int32) (L := fun m a => w_X0_laysAverage_l24 Φ (fun (s20 : St) => w_X0_laysAverage_b73 Φ s20) m a.1 (Int32.ofNat p) a.2) M (fun i a => a.2 = Int32.ofNat i ∧ Fr wTb 0 0 st a.1 ∧ sI a.1 0 8 = Int32.ofNat M ∧ sI a.1 0 9 = Int32.ofNat N ∧ ∀ r c, r < i → c < N → sL a.1 (96 + r) c = avT K G p (gmF st) r c) (fun m i a hi hA k9 => ?_) (fun m a hA => ?_) gFU 0 (s0, 0) (by omega) (gFU_big (by omega)) ⟨rfl, f0, x8, x9, fun r c hr => absurd hr (by omega)⟩
  · obtain ⟨s, x⟩ := a
    obtain ⟨e, F, y8, y9, v⟩ := hA
    dsimp only at e F y8 y9 v
    subst e
    show w_X0_laysAverage_l24 Φ _ (m + 1) s _ _
    rw [w_X0_laysAverage_l24, y8, le_of (by omega) (by omega)]
    refine ⟨fun h => absurd h (by omega), fun _ => ?_⟩
    refine loop_up (α := St × Int32) (L := fun m' a => w_X0_laysAverage_l34 Φ (fun (s19 : St) (x1 : Int32) (x2 : Int32) => w_X0_laysAverage_b67 Φ (w_X0_laysAverage_l24 Φ (fun (s20 : St) => w_X0_laysAverage_b73 Φ s20) m) s19 x1 x2) m' a.1 (Int32.ofNat p) (Int32.ofNat i) a.2) N (fun j a => a.2 = Int32.ofNat j ∧ Fr wTb 0 0 st a.1 ∧ sI a.1 0 8 = Int32.ofNat M ∧ sI a.1 0 9 = Int32.ofNat N ∧ (∀ r c, r < i → c < N → sL a.1 (96 + r) c = avT K G p (gmF st) r c) ∧ ∀ c, c < j → sL a.1 (96 + i) c = avT K G p (gmF st) i c) (fun m' j a hj hB k8 => ?_) (fun m' a hB => ?_) gFU 0 (s, 0) (by omega) (gFU_big (by omega)) ⟨rfl, F, y8, y9, v, fun c hc => absurd hc (by omega)⟩
    · obtain ⟨s', y⟩ := a
      obtain ⟨e, F', z8, z9, v', u'⟩ := hB
      dsimp only at e F' z8 z9 v' u'
      subst e
      show w_X0_laysAverage_l34 Φ _ (m' + 1) s' _ _ _
      have uu : ∀ a j, 1 ≤ a → a < 96 → sI s' a j = sI st a j := fun a j h1 h2 => (fr_at F' (Or.inl (by omega)) (by unfold wTb; omega)).1
      rw [w_X0_laysAverage_l34, z9, le_of (by omega) (by omega), vp_of (by omega)]
      refine ⟨fun h => absurd h (by omega), fun _ => ⟨by omega, ?_⟩⟩
      refine s_X1_average (K := K) (G := G) (p := p) (r := i) (c := j) hK ((uu 2 0 (by omega) (by omega)).trans e0) (fun k hk => (uu _ k (by omega) (by omega)).trans (eg k hk)) hp (by omega) (by omega) ?_
      have eA : avS K G p (fun k => sI s' (2 + (3 + 4 * k + i)) j) K = avS K G p (fun k => gmF st k i j) K := avS_cg K (fun k hk => by rw [uu _ j (by omega) (by omega)]; exact ec k i j (by omega) (by omega) (by omega))
      rw [eA, vp_of (by omega), nn_of (by omega), nn_of (by omega)]
      refine ⟨by omega, ?_⟩
      intro s9 hs9
      refine k8 (s9, _) ?_
      dsimp only
      subst hs9
      refine ⟨succ_of j, Fr_L F' (Or.inl (Or.inr ⟨by omega, by omega, by omega⟩)), by rw [gI_pL]; exact z8, by rw [gI_pL]; exact z9, fun r c hr hc => by rw [gL_pL, if_neg (by omega)]; exact v' r c hr hc, fun c hc => ?_⟩
      rw [gL_pL]
      by_cases e : c = j
      · subst e; rw [if_pos ⟨rfl, rfl⟩]; rfl
      · rw [if_neg (by omega)]; exact u' c (by omega)
    · obtain ⟨s', y⟩ := a
      obtain ⟨e, F', z8, z9, v', u'⟩ := hB
      dsimp only at e F' z8 z9 v' u'
      subst e
      show w_X0_laysAverage_l34 Φ _ (m' + 1) s' _ _ _
      rw [w_X0_laysAverage_l34, z9]
      refine ⟨fun _ => ?_, fun h => absurd (Int32.le_refl _) h⟩
      unfold w_X0_laysAverage_b67
      refine k9 (s', _) ?_
      dsimp only
      refine ⟨succ_of i, F', z8, z9, fun r c hr hc => ?_⟩
      by_cases e : r = i
      · rw [e]; exact u' c hc
      · exact v' r c (by omega) hc
  · obtain ⟨s, x⟩ := a
    obtain ⟨e, F, y8, y9, v⟩ := hA
    dsimp only at e F y8 y9 v
    subst e
    show w_X0_laysAverage_l24 Φ _ (m + 1) s _ _
    rw [w_X0_laysAverage_l24, y8]
    refine ⟨fun _ => ?_, fun h => absurd (Int32.le_refl _) h⟩
    unfold w_X0_laysAverage_b73
    exact h s F ⟨y8, y9, v⟩
