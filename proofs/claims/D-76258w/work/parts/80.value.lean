/-! PLAIN LAW, 41: values of points -/
set_option maxRecDepth 100000
theorem Qt_x {a j : Nat} (h : (a = 0 ∧ (j = 8 ∨ j = 9 ∨ j = 16 ∨ j = 17)) ∨ (95 ≤ a ∧ a ≤ 145 ∧ a ≠ 138) ∨ (149 ≤ a ∧ a ≤ 169) ∨ (a = 175 ∧ 14 ≤ j) ∨ (188 ≤ a ∧ a < 201)) : Qt a j := ⟨by omega, by unfold REr; omega, by unfold RHr; omega, by unfold RIm; omega, by unfold RZz; omega, by unfold RPy; omega, by unfold RTp; omega, by unfold RLi; omega, by unfold RSx; omega, by unfold RNt; omega⟩
def wTm (a j : Nat) : Prop := (a = 175 ∧ (j = 22 ∨ j = 23)) ∨ (a = 188 ∧ j < 81)
theorem s_averages {st : St} {K G M N p : Nat} {Φ : St → Prop} (hN : 201 ≤ sN st) (hK : K = 2 ∨ K = 3) (hG : 1 ≤ G ∧ G ≤ 4) (hM : 1 ≤ M ∧ M ≤ 3) (hn : 1 ≤ N ∧ N ≤ 3) (hp : p < ptN K G) (e0 : sI st 177 0 = Int32.ofNat K) (e1 : sI st 177 1 = Int32.ofNat G) (e2 : sI st 177 2 = Int32.ofNat M) (e3 : sI st 177 3 = Int32.ofNat N) (h : ∀ s, Fr wTm 0 0 st s → Tm s (avT K G p (gmF st)) M N → w_X4_kernel s Φ) : w_X4_averages st (Int32.ofNat p) Φ := by
  unfold w_X4_averages
  rintro _ rfl _ rfl
  have e23 : sI (putI st 175 22 (sI st 177 2)) 177 3 = Int32.ofNat N := by rw [gI_pI, if_neg (by omega)]; exact e3
  rw [e23, e2]
  have f0 : Fr wTm 0 0 st (putI (putI st 175 22 (Int32.ofNat M)) 175 23 (Int32.ofNat N)) := Fr_I (Fr_I Fr_rf (Or.inl (Or.inl ⟨rfl, Or.inl rfl⟩))) (Or.inl (Or.inl ⟨rfl, Or.inr rfl⟩))
  have x8 : sI (putI (putI st 175 22 (Int32.ofNat M)) 175 23 (Int32.ofNat N)) 175 22 = Int32.ofNat M := by rw [gI_pI, if_neg (by omega), gI_pI, if_pos ⟨rfl, rfl⟩]
  have x9 : sI (putI (putI st 175 22 (Int32.ofNat M)) 175 23 (Int32.ofNat N)) 175 23 = Int32.ofNat N := by rw [gI_pI, if_pos ⟨rfl, rfl⟩]
  generalize putI (putI st 175 22 (Int32.ofNat M)) 175 23 (Int32.ofNat N) = s0 at f0 x8 x9
  have hp15 := pt15 hK hG
  have zz : ∀ {s}, Fr wTm 0 0 st s → ∀ j, sI s 177 j = sI st 177 j := fun {s} F j => (fr_at F (Or.inl (by omega)) (by unfold wTm; omega)).1
  refine loop_up (α := St × Int32) (L := fun m a => w_X4_averages_l22 Φ (fun (s19 : St) => w_X4_averages_b74 Φ s19) m a.1 (Int32.ofNat p) a.2) M (fun i a => a.2 = Int32.ofNat i ∧ Fr wTm 0 0 st a.1 ∧ sI a.1 175 22 = Int32.ofNat M ∧ sI a.1 175 23 = Int32.ofNat N ∧ ∀ r c, r < i → c < N → sL a.1 188 (3 * r + c) = avT K G p (gmF st) r c) (fun m i a hi hA k9 => ?_) (fun m a hA => ?_) gFU 0 (s0, 0) (by omega) (gFU_big (by omega)) ⟨rfl, f0, x8, x9, fun r c hr => absurd hr (by omega)⟩
  · obtain ⟨s, x⟩ := a
    obtain ⟨e, F, y8, y9, v⟩ := hA
    dsimp only at e F y8 y9 v
    subst e
    show w_X4_averages_l22 Φ _ (m + 1) s _ _
    rw [w_X4_averages_l22, zz F 2, e2, le_of (by omega) (by omega)]
    refine ⟨fun h => absurd h (by omega), fun _ => ?_⟩
    refine loop_up (α := St × Int32) (L := fun m' a => w_X4_averages_l34 Φ (fun (s18 : St) (x1 : Int32) (x2 : Int32) => w_X4_averages_b68 Φ (w_X4_averages_l22 Φ (fun (s19 : St) => w_X4_averages_b74 Φ s19) m) s18 x1 x2) m' a.1 (Int32.ofNat p) (Int32.ofNat i) a.2) N (fun j a => a.2 = Int32.ofNat j ∧ Fr wTm 0 0 st a.1 ∧ sI a.1 175 22 = Int32.ofNat M ∧ sI a.1 175 23 = Int32.ofNat N ∧ (∀ r c, r < i → c < N → sL a.1 188 (3 * r + c) = avT K G p (gmF st) r c) ∧ ∀ c, c < j → sL a.1 188 (3 * i + c) = avT K G p (gmF st) i c) (fun m' j a hj hB k8 => ?_) (fun m' a hB => ?_) gFU 0 (s, 0) (by omega) (gFU_big (by omega)) ⟨rfl, F, y8, y9, v, fun c hc => absurd hc (by omega)⟩
    · obtain ⟨s', y⟩ := a
      obtain ⟨e, F', z8, z9, v', u'⟩ := hB
      dsimp only at e F' z8 z9 v' u'
      subst e
      show w_X4_averages_l34 Φ _ (m' + 1) s' _ _ _
      rw [w_X4_averages_l34, zz F' 3, e3, le_of (by omega) (by omega)]
      refine ⟨fun h => absurd h (by omega), fun _ => ?_⟩
      refine s_X4_averageAt (K := K) (G := G) (p := p) (r := i) (c := j) hK hG ((zz F' 0).trans e0) ((zz F' 1).trans e1) hp (by omega) (by omega) ?_
      have eA : avS K G p (fun k => sI s' 177 (4 + 9 * k + 3 * i + j)) K = avS K G p (fun k => gmF st k i j) K := avS_cg K (fun k hk => zz F' _)
      have e : 3 * Int32.ofNat i + Int32.ofNat j = Int32.ofNat (3 * i + j) := by simp only [Int32.ofNat_add, Int32.ofNat_mul]; rfl
      rw [eA, e, vp_of (by omega), nn_of (by omega)]
      refine ⟨by omega, ?_⟩
      intro s9 hs9
      refine k8 (s9, _) ?_
      dsimp only
      subst hs9
      refine ⟨succ_of j, Fr_L F' (Or.inl (Or.inr ⟨rfl, by omega⟩)), by rw [gI_pL]; exact z8, by rw [gI_pL]; exact z9, fun r c hr hc => by rw [gL_pL, if_neg (by omega)]; exact v' r c hr hc, fun c hc => ?_⟩
      rw [gL_pL]
      by_cases e : c = j
      · subst e; rw [if_pos ⟨rfl, rfl⟩]; rfl
      · rw [if_neg (by omega)]; exact u' c (by omega)
    · obtain ⟨s', y⟩ := a
      obtain ⟨e, F', z8, z9, v', u'⟩ := hB
      dsimp only at e F' z8 z9 v' u'
      subst e
      show w_X4_averages_l34 Φ _ (m' + 1) s' _ _ _
      rw [w_X4_averages_l34, zz F' 3, e3]
      refine ⟨fun _ => ?_, fun h => absurd (Int32.le_refl _) h⟩
      unfold w_X4_averages_b68
      refine k9 (s', _) ?_
      dsimp only
      refine ⟨succ_of i, F', z8, z9, fun r c hr hc => ?_⟩
      by_cases e : r = i
      · rw [e]; exact u' c hc
      · exact v' r c (by omega) hc
  · obtain ⟨s, x⟩ := a
    obtain ⟨e, F, y8, y9, v⟩ := hA
    dsimp only at e F y8 y9 v
    subst e
    show w_X4_averages_l22 Φ _ (m + 1) s _ _
    rw [w_X4_averages_l22, zz F 2, e2]
    refine ⟨fun _ => ?_, fun h => absurd (Int32.le_refl _) h⟩
    unfold w_X4_averages_b74
    exact h s F ⟨y8, y9, v⟩
/-- what the house's two sides tell of a table -/
def Hs (st : St) (K G M N : Nat) : Prop := (K = 2 ∨ K = 3) ∧ (1 ≤ G ∧ G ≤ 4) ∧ (1 ≤ M ∧ M ≤ 3) ∧ (1 ≤ N ∧ N ≤ 3) ∧ sI st 177 0 = Int32.ofNat K ∧ sI st 177 1 = Int32.ofNat G ∧ sI st 177 2 = Int32.ofNat M ∧ sI st 177 3 = Int32.ofNat N ∧ sI st 2 0 = Int32.ofNat K ∧ sI st 2 1 = Int32.ofNat G ∧ sI st 2 2 = Int32.ofNat M ∧ sI st 2 3 = Int32.ofNat N ∧ sI st 2 9 = Int32.ofNat (ptN K G) ∧ (∀ p k, p < ptN K G → k < 3 → sI st (2 + (16 + p)) k = Int32.ofNat (ptV K G p k)) ∧ (∀ g r c, g < 3 → r < 3 → c < 3 → sI st (2 + (3 + 4 * g + r)) c = gmF st g r c) ∧ ∀ g r c, g < 3 → r < 3 → c < 3 → -20 ≤ (gmF st g r c).toInt ∧ (gmF st g r c).toInt ≤ 20
theorem Hs_of {b : Nat} {st : St} (hI : Inv (b + 1) st) : ∃ K G M N, Hs st K G M N := by
  obtain ⟨K, G, M, N, ⟨q1, q2, q3, q4, q5, q6, q7, q8, q9, q10, q11⟩, ⟨c1, c2, c3, c4⟩, hGv, hTr⟩ := iHr hI
  refine ⟨K, G, M, N, q1, q2, q3, q4, q5, q6, q7, q8, (c1 0 (by omega)).trans q5, (c1 1 (by omega)).trans q6, (c1 2 (by omega)).trans q7, (c1 3 (by omega)).trans q8, hGv.1, hGv.2, c3, fun g r c hg hr hc => ?_⟩
  have h := q10 (4 + 9 * g + 3 * r + c) (by omega) (by omega)
  rw [Int32.le_iff_toInt_le, Int32.le_iff_toInt_le] at h
  exact h
theorem Hs_q {st s : St} {K G M N x y : Nat} {W : Nat → Nat → Prop} (hF : Fr W x y st s) (hN : 201 ≤ sN st) (hW : ∀ a j, (2 ≤ a ∧ a ≤ 32) ∨ (a = 177 ∧ j < 96) → ¬ W a j) (h : Hs st K G M N) : Hs s K G M N ∧ ∀ g r c, g < 3 → r < 3 → c < 3 → gmF s g r c = gmF st g r c := by
  have sx : ∀ a j, 2 ≤ a → a ≤ 32 → sI s a j = sI st a j := fun a j h1 h2 => (fr_at hF (Or.inl (by omega)) (hW a j (Or.inl ⟨h1, h2⟩))).1
  have sm : ∀ j, j < 96 → sI s 177 j = sI st 177 j := fun j h1 => (fr_at hF (Or.inl (by omega)) (hW 177 j (Or.inr ⟨rfl, h1⟩))).1
  have gm : ∀ g r c, g < 3 → r < 3 → c < 3 → gmF s g r c = gmF st g r c := fun g r c hg hr hc => sm _ (by omega)
  obtain ⟨q1, q2, q3, q4, q5, q6, q7, q8, q9, q10, q11, q12, q13, q14, q15, q16⟩ := h
  have hp := pt15 q1 q2
  refine ⟨⟨q1, q2, q3, q4, (sm 0 (by omega)).trans q5, (sm 1 (by omega)).trans q6, (sm 2 (by omega)).trans q7, (sm 3 (by omega)).trans q8, (sx 2 0 (by omega) (by omega)).trans q9, (sx 2 1 (by omega) (by omega)).trans q10, (sx 2 2 (by omega) (by omega)).trans q11, (sx 2 3 (by omega) (by omega)).trans q12, (sx 2 9 (by omega) (by omega)).trans q13, fun p k hp1 hk => (sx _ k (by omega) (by omega)).trans (q14 p k hp1 hk), fun g r c hg hr hc => ?_, fun g r c hg hr hc => ?_⟩, gm⟩
  · rw [gm g r c hg hr hc, sx _ c (by omega) (by omega)]; exact q15 g r c hg hr hc
  · rw [gm g r c hg hr hc]; exact q16 g r c hg hr hc
theorem avT_cg {K G p : Nat} {f g : Nat → Nat → Nat → Int32} (hK : K ≤ 3) {r c : Nat} (h : ∀ k, k < 3 → f k r c = g k r c) : avT K G p f r c = avT K G p g r c := by
  unfold avT
  rw [avS_cg K (fun k hk => h k (by omega))]
theorem av_bd {st : St} {K G M N p : Nat} (h : Hs st K G M N) (hp : p < ptN K G) : ∀ r c, r < M → c < N → bd (avT K G p (gmF st) r c).toInt := fun r c hr hc => by
  obtain ⟨q1, q2, q3, q4, q5, q6, q7, q8, q9, q10, q11, q12, q13, q14, q15, q16⟩ := h
  have h9 := avS_b (K := K) (G := G) (p := p) (f := fun k => gmF st k r c) K (by omega) (fun i hi => ⟨pt4 q1 q2 hp (by omega), q16 i r c (by omega) (by omega) (by omega)⟩)
  unfold avT bd
  rw [Int32.toInt_toInt64]
  omega
/-- the value of a point -/
def uR (K G M N p : Nat) (f : Nat → Nat → Nat → Int32) : Int64 × Int64 := match fsN (avT K G p f) M N 4 1 with
  | some (n, a, c) => lowR (kWo (avT K G p f) n (gD a) (gD c)) (kTot (avT K G p f) n (gD a) (gD c) * (Int32.ofNat G).toInt64)
  | none => (0, 1)
theorem kTG {T : Nat → Nat → Int64} {n G : Nat} {I J : Nat → Nat} (hG : 1 ≤ G ∧ G ≤ 4) (h1 : 1 ≤ (kTot T n I J).toInt) (h2 : (kTot T n I J).toInt ≤ 3303478080000) : (kTot T n I J * (Int32.ofNat G).toInt64).toInt = (kTot T n I J).toInt * (G : Int) ∧ 1 ≤ (kTot T n I J).toInt * (G : Int) ∧ (kTot T n I J).toInt * (G : Int) ≤ 13213912320000 := by
  generalize (kTot T n I J) = k at *
  have e : 1 ≤ k.toInt * (G : Int) ∧ k.toInt * (G : Int) ≤ 13213912320000 := by
    rcases (by omega : G = 1 ∨ G = 2 ∨ G = 3 ∨ G = 4) with rfl | rfl | rfl | rfl <;> omega
  refine ⟨?_, e⟩
  rw [tmul, t64n (by omega)]
  apply bm_fit
  unfold fit; omega
theorem uR_pos {st : St} {K G M N p : Nat} (h : Hs st K G M N) (hp : p < ptN K G) : 0 < (uR K G M N p (gmF st)).2.toInt := by
  have hb := av_bd h hp
  obtain ⟨q1, q2, q3, q4, -⟩ := h
  unfold uR
  cases hf : fsN (avT K G p (gmF st)) M N 4 1 with
  | none => exact absurd hf (found (by omega) (by omega) hb)
  | some t =>
    obtain ⟨n, a, c⟩ := t
    obtain ⟨g1, g2, g3, g4, g5, g6⟩ := fsN_ok (by omega) 4 1 n a c (by omega) hf
    obtain ⟨t1, t2, t3, t4⟩ := kT_pos g1 hb (set_lt g2 g4) (set_lt g3 g5) g6
    obtain ⟨k1, k2, k3⟩ := kTG q2 t1 t2
    exact (low_pos (by rw [k1]; omega)).1
def wWv (a j : Nat) : Prop := wTb a j ∨ wKx a j ∨ (149 ≤ a ∧ a ≤ 163)
theorem wWv_Q : ∀ a j, wWv a j → Qt a j := fun a j h => Qt_x (by unfold wWv wTb wKx wSv at h; omega)
/-- the component's value of a point -/
theorem x_worthOf {st : St} {K G M N p : Nat} {Φ : St → Nat → Prop} {Φw : St → Nat → Prop} {Φa : St → Prop} (hN : 201 ≤ sN st) (h : Hs st K G M N) (hp : p < ptN K G) (hΦ : ∀ s, Fr (fun a j => wTb a j ∨ wKx a j ∨ (a = 149 + p ∧ j < 2)) 0 0 st s → pR s (149 + p) = uR K G M N p (gmF st) → Φ s (149 + p)) : w_X0_worthOf st (Int32.ofNat p) Φ Φw Φa := by
  have hb := av_bd h hp
  have hh := h
  obtain ⟨q1, q2, q3, q4, q5, q6, q7, q8, q9, q10, q11, q12, q13, q14, q15, q16⟩ := hh
  have hp15 := pt15 q1 q2
  unfold w_X0_worthOf
  refine s_laysAverage hN q1 q3 q4 (by omega) q9 q11 q12 (fun k hk => q14 p k hp hk) q15 (fun s2 f2 T2 => ?_)
  have hN2 : 201 ≤ sN s2 := Nat.le_trans hN f2.1
  refine x_kernel hN2 (by omega) (by omega) T2 (fun n a c hf s10 hF => ?_) (found (by omega) (by omega) hb)
  obtain ⟨g1, g2, g3, g4, g5, g6⟩ := fsN_ok (by omega) 4 1 n a c (by omega) hf
  obtain ⟨t1, t2, t3, t4⟩ := kT_pos g1 hb (set_lt g2 g4) (set_lt g3 g5) g6
  obtain ⟨k1, k2, k3⟩ := kTG q2 t1 t2
  obtain ⟨f10, v16, v17, v3, v4⟩ := hF
  have e21 : sI s10 2 1 = Int32.ofNat G := by
    rw [(fr_at f10 (Or.inl (by omega)) (by unfold wKx wSv; omega)).1, (fr_at f2 (Or.inl (by omega)) (by unfold wTb; omega)).1]; exact q10
  rw [vp_of (by omega), nn_of (by omega), v16, v17, e21]
  refine ⟨by omega, ?_⟩
  have hpos : 0 < (kTot (avT K G p (gmF st)) n (gD a) (gD c) * (Int32.ofNat G).toInt64).toInt := by rw [k1]; omega
  refine s_X2_is (by omega) (fun v hv => ?_) (fun hv => by rw [isR_pos hpos] at hv; cases hv)
  rw [isR_pos hpos] at hv
  cases hv
  refine hΦ _ ?_ ?_
  · exact Fr_L (Fr_L (Fr_tr (x := 0) (y := 0) (Fr_mo f2 (fun _ _ h => Or.inl h) (Nat.le_refl _) (Nat.le_refl _)) (Fr_mo f10 (fun _ _ h => Or.inr (Or.inl h)) (Nat.le_refl _) (Nat.le_refl _))) (Or.inl (Or.inr (Or.inr ⟨rfl, by omega⟩)))) (Or.inl (Or.inr (Or.inr ⟨rfl, by omega⟩)))
  · unfold pR putP uR
    rw [hf, gL_pL, if_neg (by omega), gL_pL, if_pos ⟨rfl, rfl⟩, gL_pL, if_pos ⟨rfl, rfl⟩]
/-! the reference's memory of values -/
def Mm (st : St) (K G M N : Nat) (f : Nat → Nat → Nat → Int32) : Prop := ∀ p, p < ptN K G → sI st 196 p = 0 ∨ (sL st 194 p, sL st 195 p) = uR K G M N p f
def wU (a j : Nat) : Prop := wTm a j ∨ wKy a j ∨ wR a j ∨ ((a = 194 ∨ a = 195 ∨ a = 196) ∧ j < 15)
theorem wU_Q : ∀ a j, wU a j → Qt a j := fun a j h => Qt_x (by unfold wU wTm wKy wKm wR at h; omega)
theorem vn0 : vp_nar .boolean (0 : Int32) = 0 := by decide
theorem vn1 : vp_nar .boolean (1 : Int32) = 1 := by decide
theorem m_begins {st : St} {Φ : St → Prop} (h : ∀ s, Fr (fun a j => (a = 175 ∧ j = 20) ∨ (a = 196 ∧ j < 15)) 0 0 st s → sI s 175 20 = 0 → (∀ p, p < 15 → sI s 196 p = 0) → Φ s) : w_X4_begins st Φ := by
  unfold w_X4_begins
  rintro _ rfl
  refine loop_up (α := St × Int32) (L := fun n a => w_X4_begins_l7 Φ (fun (s7 : St) => w_X4_begins_b26 Φ s7) n a.1 a.2) 15 (fun i a => a.2 = Int32.ofNat i ∧ Fr (fun a j => (a = 175 ∧ j = 20) ∨ (a = 196 ∧ j < 15)) 0 0 st a.1 ∧ sI a.1 175 20 = 0 ∧ ∀ j, j < i → sI a.1 196 j = 0) (fun n i a hi hI k9 => ?_) (fun n a hI => ?_) gFU 0 (putI st 175 20 0, 0) (by omega) (gFU_big (by omega)) ⟨rfl, Fr_I Fr_rf (Or.inl (Or.inl ⟨rfl, rfl⟩)), by rw [gI_pI, if_pos ⟨rfl, rfl⟩], fun j hj => absurd hj (by omega)⟩
  · obtain ⟨s, x⟩ := a
    obtain ⟨e, h1, h2, h3⟩ := hI
    dsimp only at e h1 h2 h3
    subst e
    show w_X4_begins_l7 Φ _ (n + 1) s _
    have e2 : ((15 : Int32) ≤ Int32.ofNat i) = (15 ≤ i) := le_of (m := 15) (by omega) (by omega)
    rw [w_X4_begins_l7, e2, vp_of (by omega), nn_of (by omega), vn0]
    refine ⟨fun h => absurd h (by omega), fun _ => ⟨hi, ?_⟩⟩
    intro s9 hs9
    refine k9 (s9, _) ?_
    dsimp only
    subst hs9
    refine ⟨succ_of i, Fr_I h1 (Or.inl (Or.inr ⟨rfl, hi⟩)), by rw [gI_pI, if_neg (by omega)]; exact h2, fun j hj => ?_⟩
    rw [gI_pI]
    by_cases e9 : j = i
    · rw [if_pos ⟨rfl, e9⟩]
    · rw [if_neg (fun h => e9 h.2)]; exact h3 j (by omega)
  · obtain ⟨s, x⟩ := a
    obtain ⟨e, h1, h2, h3⟩ := hI
    dsimp only at e h1 h2 h3
    subst e
    show w_X4_begins_l7 Φ _ (n + 1) s _
    rw [w_X4_begins_l7]
    refine ⟨fun _ => ?_, fun h => absurd (Int32.le_refl _) h⟩
    unfold w_X4_begins_b26
    exact h s h1 h2 h3
