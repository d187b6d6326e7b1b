/-! PLAIN LAW, 58: hull, best, weight -/
set_option maxRecDepth 100000
def wHX (a j : Nat) : Prop := wWv a j ∨ wHx a j
theorem wHX_c {a j : Nat} (h : wHX a j) : (a = 0 ∧ (j = 8 ∨ j = 9 ∨ j = 16 ∨ j = 17 ∨ j = 23)) ∨ (96 ≤ a ∧ a ≤ 143 ∧ a ≠ 138) ∨ (149 ≤ a ∧ a ≤ 169) := by
  unfold wHX at h
  rcases h with h | h
  · unfold wWv wTb wKx wSv at h; omega
  · have := wHx_c h; omega
theorem wHX_Q : ∀ a j, wHX a j → Qt a j := fun a j h => by
  have := wHX_c h
  exact ⟨by omega, by unfold REr; omega, by unfold RHr; omega, by unfold RIm; omega, by unfold RZz; omega, by unfold RPy; omega, by unfold RTp; omega, by unfold RLi; omega, by unfold RSx; omega, by unfold RNt; omega⟩
theorem wHX_n : ∀ a j, wHX a j → (a = 0 ∨ 33 ≤ a) ∧ a ≠ 177 := fun a j h => by have := wHX_c h; omega
theorem wHm_Q : ∀ a j, wHm a j → Qt a j := fun a j h => Qt_x (by have := wHm_c h; omega)
/-! errors behind writings -/
theorem errWL {b : Nat} {st : St} {K E : St → Prop} {k : Nat} {M : St → (St → Int64 → Prop) → Prop} (hI : Inv (b + 1) st) (hK : ∀ s, Inv b s → K s) (hk : k < 9) {st1 : St} {e x y : Nat} {W : Nat → Nat → Prop} (hW : ∀ a j, W a j → Qt a j) (f1 : Fr W x y st st1) (he : sN st ≤ e) (e1 : sI st1 e 6 = Int32.ofNat k) (hx : x ≤ 49990) (hy : y ≤ 228000) (hm : ∀ s2, Fr (fun a j => W a j ∨ (a = 1 ∧ j = k)) x y st s2 → ∀ Φ : St → Int64 → Prop, (∀ s3, Fr (QE 176 k) 0 0 s2 s3 → sI s3 176 k = sI s2 176 k + 1 → Φ s3 ((-9000000000000000000) - (Int32.ofNat k).toInt64)) → M s2 Φ) : w_X0_answersFar st1 e (fun s r => M s (fun s' r' => (r = r' → K s') ∧ (¬ r = r' → E s'))) := by
  have hN := hI.1.1
  unfold w_X0_answersFar
  rw [e1, vp_of (by omega), nn_of (by omega)]
  refine ⟨hk, ?_⟩
  intro s2 e2
  have F2 : Fr (fun a j => W a j ∨ (a = 1 ∧ j = k)) x y st s2 := by rw [e2]; exact Fr_I (Fr_mo f1 (fun _ _ h => Or.inl h) (Nat.le_refl _) (Nat.le_refl _)) (Or.inl (Or.inr ⟨rfl, rfl⟩))
  have v2 : sI s2 1 k = sI st 1 k + 1 := by rw [e2, gI_pI, if_pos ⟨rfl, rfl⟩, (fr_at f1 (Or.inl (by omega)) (fun h => Qt_1 (hW _ _ h))).1]
  have v6 : sI s2 e 6 = Int32.ofNat k := by rw [e2, gI_pI, if_neg (by omega)]; exact e1
  rw [v6]
  exact hm s2 F2 _ (fun s3 f3 e3 => ⟨fun _ => hK _ (err_fin hk hI (Fr_mo F2 (fun a j h => by rcases h with h | h; exact Or.inl (hW a j h); exact Or.inr h) (Nat.le_refl _) (Nat.le_refl _)) f3 v2 e3 (by omega) (by omega) (QE_ok (by omega)) (QE_ok (by omega))), fun h => absurd rfl h⟩)
theorem errWI {b : Nat} {st : St} {K E : St → Prop} {k : Nat} {M : St → (St → Int32 → Prop) → Prop} (hI : Inv (b + 1) st) (hK : ∀ s, Inv b s → K s) (hk : k < 9) {st1 : St} {e x y : Nat} {W : Nat → Nat → Prop} (hW : ∀ a j, W a j → Qt a j) (f1 : Fr W x y st st1) (he : sN st ≤ e) (e1 : sI st1 e 6 = Int32.ofNat k) (hx : x ≤ 49990) (hy : y ≤ 228000) (hm : ∀ s2, Fr (fun a j => W a j ∨ (a = 1 ∧ j = k)) x y st s2 → ∀ Φ : St → Int32 → Prop, (∀ s3, Fr (QE 176 k) 0 0 s2 s3 → sI s3 176 k = sI s2 176 k + 1 → Φ s3 ((-1000000000) - Int32.ofNat k)) → M s2 Φ) : w_X0_answers st1 e (fun s r => M s (fun s' r' => (r = r' → K s') ∧ (¬ r = r' → E s'))) := by
  have hN := hI.1.1
  unfold w_X0_answers
  rw [e1, vp_of (by omega), nn_of (by omega)]
  refine ⟨hk, ?_⟩
  intro s2 e2
  have F2 : Fr (fun a j => W a j ∨ (a = 1 ∧ j = k)) x y st s2 := by rw [e2]; exact Fr_I (Fr_mo f1 (fun _ _ h => Or.inl h) (Nat.le_refl _) (Nat.le_refl _)) (Or.inl (Or.inr ⟨rfl, rfl⟩))
  have v2 : sI s2 1 k = sI st 1 k + 1 := by rw [e2, gI_pI, if_pos ⟨rfl, rfl⟩, (fr_at f1 (Or.inl (by omega)) (fun h => Qt_1 (hW _ _ h))).1]
  have v6 : sI s2 e 6 = Int32.ofNat k := by rw [e2, gI_pI, if_neg (by omega)]; exact e1
  rw [v6]
  exact hm s2 F2 _ (fun s3 f3 e3 => ⟨fun _ => hK _ (err_fin hk hI (Fr_mo F2 (fun a j h => by rcases h with h | h; exact Or.inl (hW a j h); exact Or.inr h) (Nat.le_refl _) (Nat.le_refl _)) f3 v2 e3 (by omega) (by omega) (QE_ok (by omega)) (QE_ok (by omega))), fun h => absurd rfl h⟩)
theorem s_bigJ {s : St} {Φw : St → Nat → Prop} (h1 : sN s + 2 ≤ gCAP) (h2 : sS s + 13 ≤ gCAPS) (h : ∀ st' e, Fr noW 2 13 s st' → sN s ≤ e → sI st' e 6 = 6 → Φw st' e) : jkA s (fun s4 => sN s4 + 1 ≤ gCAP ∧ sS s4 + 7 ≤ gCAPS ∧ ∀ s3, s3 = mk s4 6 7 → w_X5_init s3 (sN s4) 6 (fun s9 => Φw s9 (sN s4))) := by
  obtain ⟨a, b, c⟩ := s_junk (st := s) (A := 1) (B := 6) (k := 6) (Φw := Φw) (by omega) (by omega) h
  exact ⟨a, b, fun x y hx hy => c x y hx hy _ rfl⟩
/-- a number grew too great -/
theorem bigL {b : Nat} {st : St} {K E : St → Prop} {M : St → (St → Int64 → Prop) → Prop} (hI : Inv (b + 1) st) (hK : ∀ s, Inv b s → K s) {st1 : St} {W : Nat → Nat → Prop} (hW : ∀ a j, W a j → Qt a j) (f1 : Fr W 0 0 st st1) (hm : ∀ s2, Fr (fun a j => W a j ∨ (a = 1 ∧ j = 6)) 2 13 st s2 → ∀ Φ : St → Int64 → Prop, (∀ s3, Fr (QE 176 6) 0 0 s2 s3 → sI s3 176 6 = sI s2 176 6 + 1 → Φ s3 ((-9000000000000000000) - (Int32.ofNat 6).toInt64)) → M s2 Φ) : jkA st1 (fun s44 => w_X0_isFarBig s44 (fun s46 r45 => M s46 (fun s' r' => (r45 = r' → K s') ∧ (¬ r45 = r' → E s')))) := by
  obtain ⟨hN, hc1, hc2⟩ := Rm1 hI
  have n1 := f1.2.1
  have n2 := f1.2.2.1
  refine s_bigJ (Φw := fun s e => w_X0_answersFar s e (fun s46 r45 => M s46 (fun s' r' => (r45 = r' → K s') ∧ (¬ r45 = r' → E s')))) (by omega) (by omega) (fun st' e f' he e' => ?_)
  exact errWL (k := 6) hI hK (by decide) hW (Fr_tr (x := 0) (y := 0) f1 (Fr_mo f' noQ (Nat.le_refl _) (Nat.le_refl _))) (Nat.le_trans f1.1 he) e' (by omega) (by omega) hm
theorem bigI {b : Nat} {st : St} {K E : St → Prop} {M : St → (St → Int32 → Prop) → Prop} (hI : Inv (b + 1) st) (hK : ∀ s, Inv b s → K s) {st1 : St} {W : Nat → Nat → Prop} (hW : ∀ a j, W a j → Qt a j) (f1 : Fr W 0 0 st st1) (hm : ∀ s2, Fr (fun a j => W a j ∨ (a = 1 ∧ j = 6)) 2 13 st s2 → ∀ Φ : St → Int32 → Prop, (∀ s3, Fr (QE 176 6) 0 0 s2 s3 → sI s3 176 6 = sI s2 176 6 + 1 → Φ s3 ((-1000000000) - Int32.ofNat 6)) → M s2 Φ) : jkA st1 (fun s44 => w_X0_isBig s44 (fun s46 r45 => M s46 (fun s' r' => (r45 = r' → K s') ∧ (¬ r45 = r' → E s')))) := by
  obtain ⟨hN, hc1, hc2⟩ := Rm1 hI
  have n1 := f1.2.1
  have n2 := f1.2.2.1
  refine s_bigJ (Φw := fun s e => w_X0_answers s e (fun s46 r45 => M s46 (fun s' r' => (r45 = r' → K s') ∧ (¬ r45 = r' → E s')))) (by omega) (by omega) (fun st' e f' he e' => ?_)
  exact errWI (k := 6) hI hK (by decide) hW (Fr_tr (x := 0) (y := 0) f1 (Fr_mo f' noQ (Nat.le_refl _) (Nat.le_refl _))) (Nat.le_trans f1.1 he) e' (by omega) (by omega) hm
/-- a need behind writings -/
theorem needWL {b : Nat} {st s1 : St} {K E : St → Prop} {k : Nat} {c : Bool} {Φ : St → Prop} {W : Nat → Nat → Prop} {M : St → (St → Int64 → Prop) → Prop} (hI : Inv (b + 1) st) (hK : ∀ s, Inv b s → K s) (hk : k < 9) (hW : ∀ a j, W a j → Qt a j) (f1 : Fr W 0 0 st s1) (h1 : c = true → Φ s1) (hm : c = false → ∀ s2, Fr (fun a j => W a j ∨ (a = 1 ∧ j = k)) 1 7 st s2 → ∀ Φ : St → Int64 → Prop, (∀ s3, Fr (QE 176 k) 0 0 s2 s3 → sI s3 176 k = sI s2 176 k + 1 → Φ s3 ((-9000000000000000000) - (Int32.ofNat k).toInt64)) → M s2 Φ) : w_X0_need s1 (ib c) (Int32.ofNat k) Φ (fun s a => w_X0_answersFar s a (fun s r => M s (fun s' r' => (r = r' → K s') ∧ (¬ r = r' → E s')))) := by
  obtain ⟨hN, hc1, hc2⟩ := Rm1 hI
  have n1 := f1.2.1
  have n2 := f1.2.2.1
  refine s_need h1 (fun hc => ⟨by omega, by omega, fun st' f' e' => ?_⟩)
  exact errWL hI hK hk hW (Fr_tr (x := 0) (y := 0) f1 (Fr_mo f' noQ (Nat.le_refl _) (Nat.le_refl _))) f1.1 e' (by omega) (by omega) (hm hc)
theorem needWI {b : Nat} {st s1 : St} {K E : St → Prop} {k : Nat} {c : Bool} {Φ : St → Prop} {W : Nat → Nat → Prop} {M : St → (St → Int32 → Prop) → Prop} (hI : Inv (b + 1) st) (hK : ∀ s, Inv b s → K s) (hk : k < 9) (hW : ∀ a j, W a j → Qt a j) (f1 : Fr W 0 0 st s1) (h1 : c = true → Φ s1) (hm : c = false → ∀ s2, Fr (fun a j => W a j ∨ (a = 1 ∧ j = k)) 1 7 st s2 → ∀ Φ : St → Int32 → Prop, (∀ s3, Fr (QE 176 k) 0 0 s2 s3 → sI s3 176 k = sI s2 176 k + 1 → Φ s3 ((-1000000000) - Int32.ofNat k)) → M s2 Φ) : w_X0_need s1 (ib c) (Int32.ofNat k) Φ (fun s a => w_X0_answers s a (fun s r => M s (fun s' r' => (r = r' → K s') ∧ (¬ r = r' → E s')))) := by
  obtain ⟨hN, hc1, hc2⟩ := Rm1 hI
  have n1 := f1.2.1
  have n2 := f1.2.2.1
  refine s_need h1 (fun hc => ⟨by omega, by omega, fun st' f' e' => ?_⟩)
  exact errWI hI hK hk hW (Fr_tr (x := 0) (y := 0) f1 (Fr_mo f' noQ (Nat.le_refl _) (Nat.le_refl _))) f1.1 e' (by omega) (by omega) (hm hc)
/-- the component works out the values of all points -/
theorem x_allWorths {st : St} {K G M N : Nat} {Φ : St → Prop} {Φw : St → Nat → Prop} {Φa : St → Prop} (hN : 201 ≤ sN st) (hs : Hs st K G M N) (h : ∀ s, Fr wWv 0 0 st s → (∀ q, q < ptN K G → pR s (149 + q) = uR K G M N q (gmF st)) → Φ s) : w_X0_allWorths st Φ Φw Φa := by
  have q1 := hs.1
  have q2 := hs.2.1
  have hp15 := pt15 q1 q2
  have nW : ∀ a j, wWv a j → (a = 0 ∧ (j = 8 ∨ j = 9 ∨ j = 16 ∨ j = 17)) ∨ (96 ≤ a ∧ a ≤ 132) ∨ (149 ≤ a ∧ a ≤ 163) := fun a j h => by unfold wWv wTb wKx wSv at h; omega
  unfold w_X0_allWorths
  refine loop_up (α := St × Int32) (L := fun m a => w_X0_allWorths_l2 Φ Φw Φa (fun (s12 : St) => w_X0_allWorths_b25 Φ Φw Φa s12) m a.1 a.2) (ptN K G) (fun i a => a.2 = Int32.ofNat i ∧ Fr wWv 0 0 st a.1 ∧ ∀ q, q < i → pR a.1 (149 + q) = uR K G M N q (gmF st)) (fun m i a hi hA k9 => ?_) (fun m a hA => ?_) gFU 0 (st, 0) (by omega) (gFU_big (by omega)) ⟨rfl, Fr_rf, fun q hq => absurd hq (by omega)⟩
  · obtain ⟨s, x⟩ := a
    obtain ⟨e, F, v⟩ := hA
    dsimp only at e F v
    subst e
    show w_X0_allWorths_l2 Φ Φw Φa _ (m + 1) s _
    have hNs : 201 ≤ sN s := Nat.le_trans hN F.1
    obtain ⟨hss, -⟩ := Hs_q F hN (fun a j h hw => by have := nW a j hw; omega) hs
    have gs : gmF s = gmF st := gm_eq F hN (fun j hw => by have := nW _ _ hw; omega)
    rw [w_X0_allWorths_l2, hss.2.2.2.2.2.2.2.2.2.2.2.2.1, le_of (by omega) (by omega)]
    refine ⟨fun h => absurd h (by omega), fun _ => ?_⟩
    refine x_worthOf hNs hss hi (fun s3 F3 v3 => ?_)
    have hk := k9 (s3, Int32.ofNat i + 1)
    dsimp only at hk
    refine hk ⟨succ_of i, Fr_tr (x := 0) (y := 0) F (Fr_mo F3 (fun a j h => by unfold wWv; rcases h with h | h | h; exact Or.inl h; exact Or.inr (Or.inl h); exact Or.inr (Or.inr (by omega))) (Nat.le_refl _) (Nat.le_refl _)), fun q hq => ?_⟩
    by_cases e : q = i
    · rw [e, v3, gs]
    · rw [pR_at F3 (by omega) (fun j hj h => by unfold wTb wKx wSv at h; omega)]
      exact v q (by omega)
  · obtain ⟨s, x⟩ := a
    obtain ⟨e, F, v⟩ := hA
    dsimp only at e F v
    subst e
    show w_X0_allWorths_l2 Φ Φw Φa _ (m + 1) s _
    obtain ⟨hss, -⟩ := Hs_q F hN (fun a j h hw => by have := nW a j hw; omega) hs
    rw [w_X0_allWorths_l2, hss.2.2.2.2.2.2.2.2.2.2.2.2.1]
    refine ⟨fun _ => ?_, fun h => absurd (Int32.le_refl _) h⟩
    unfold w_X0_allWorths_b25
    exact h s F v
/-- the store behind all values -/
theorem x_aw {st s : St} {K G M N : Nat} (hN : 201 ≤ sN st) (hs : Hs st K G M N) (h138 : pR st 138 = (0, 1)) (F : Fr wWv 0 0 st s) (v : ∀ q, q < ptN K G → pR s (149 + q) = uR K G M N q (gmF st)) : Xh s s K G M N (gmF st) := by
  have nW : ∀ a j, wWv a j → (a = 0 ∧ (j = 8 ∨ j = 9 ∨ j = 16 ∨ j = 17)) ∨ (96 ≤ a ∧ a ≤ 132) ∨ (149 ≤ a ∧ a ≤ 163) := fun a j h => by unfold wWv wTb wKx wSv at h; omega
  refine ⟨Fr_rf, (Hs_q F hN (fun a j h hw => by have := nW a j hw; omega) hs).1, ?_, fun q hq => ⟨v q hq, uR_pos hs hq⟩⟩
  rw [pR_at F (by omega) (fun j hj hw => by have := nW _ _ hw; omega)]; exact h138
theorem x_hullNow {st : St} {K G M N p : Nat} {r : Option (Option Bst)} {Φ : St → Nat → Prop} {Φw : St → Nat → Prop} {Φa : St → Prop} (hN : 201 ≤ sN st) (hs : Hs st K G M N) (h138 : pR st 138 = (0, 1)) (hp : p < ptN K G) (hR : HuR K G M N p (gmF st) K 1 (some none) r) (h1 : ∀ b, r = some (some b) → ∀ s', Fr wHX 0 0 st s' → XB s' K G p (some b) → Φ s' 140) (h2 : r = none → ∀ s', Fr wHX 0 0 st s' → jkA s' Φa) : w_X0_hullNow st (Int32.ofNat p) Φ Φw Φa := by
  unfold w_X0_hullNow
  refine x_allWorths hN hs (fun s F v => ?_)
  have X := x_aw hN hs h138 F v
  have F' : Fr wHX 0 0 st s := Fr_mo F (fun _ _ h => Or.inl h) (Nat.le_refl _) (Nat.le_refl _)
  have mo : ∀ s', Fr wHx 0 0 s s' → Fr wHX 0 0 st s' := fun s' f => Fr_tr (x := 0) (y := 0) F' (Fr_mo f (fun _ _ h => Or.inr h) (Nat.le_refl _) (Nat.le_refl _))
  exact x_hullOf (Nat.le_trans hN F.1) X hp hR (fun b hb s' X' B' => h1 b hb s' (mo s' X'.1) B') (fun hr s' f => h2 hr s' (mo s' f))
def wHM (a j : Nat) : Prop := wHm a j
/-- the reference's run to the hull -/
theorem m_hullRun {s : St} {K G M N p : Nat} {r : Option (Option Bst)} {Φ : St → Prop} (hN : 201 ≤ sN s) (hs : Hs s K G M N) (hp : p < ptN K G) (hR : HuR K G M N p (gmF s) K 1 (some none) r) (h : ∀ s', Fr wHm 0 0 s s' → MB s' K G M N p (gmF s) r → sL s' 175 18 = sL s' 175 43 → sL s' 175 19 = sL s' 175 44 → Φ s') : w_X4_begins s (fun s28 => w_X4_hullOf s28 (Int32.ofNat p) Φ) := by
  have hp15 := pt15 hs.1 hs.2.1
  refine m_begins (fun s5 f5 c5 z5 => ?_)
  obtain ⟨hs5, -⟩ := Hs_q f5 hN (fun a j h hw => by omega) hs
  have g5 : gmF s5 = gmF s := gm_eq f5 hN (fun j hw => by omega)
  have F5 : Fr wHm 0 0 s s5 := Fr_mo f5 (fun a j h => Or.inl (by unfold wU wR; omega)) (Nat.le_refl _) (Nat.le_refl _)
  refine m_hullOf (Nat.le_trans hN f5.1) hs5 hp c5 (Mm_0 hp15.1 z5) (by rw [g5]; exact hR) (fun s' X B e1 e2 => ?_)
  rw [g5] at B
  exact h s' (Fr_tr (x := 0) (y := 0) F5 X.1) B e1 e2
theorem e_hull {st : St} {p1 p2 : Int32} {Φ : St → Int64 → Prop} (h : w_X0_hull_b23 Φ st p1 p2 (ib (inB p1.toInt64 0 ((sI st 2 9) - 1).toInt64 && inB p2.toInt64 0 1))) : w_X0_hull st p1 p2 Φ := by
  unfold w_X0_hull w_X0_hull_b22
  simp only [pe_X1_isPoint, pe_X0_isPart, ib_z]
  revert h
  cases inB p1.toInt64 0 ((sI st 2 9) - 1).toInt64 <;> cases inB p2.toInt64 0 1 <;> simp [ib]
theorem Hs_W {st s : St} {K G M N x y k : Nat} {W : Nat → Nat → Prop} (hF : Fr (fun a j => W a j ∨ (a = 1 ∧ j = k)) x y st s) (hN : 201 ≤ sN st) (hW : ∀ a j, W a j → (a = 0 ∨ 33 ≤ a) ∧ a ≠ 177) (h : Hs st K G M N) : Hs s K G M N ∧ gmF s = gmF st := by
  have nw := hW
  refine ⟨(Hs_q hF hN (fun a j h hw => ?_) h).1, gm_eq hF hN (fun j hw => ?_)⟩
  · rcases hw with hw | hw
    · have := nw a j hw; omega
    · omega
  · rcases hw with hw | hw
    · have := nw _ _ hw; omega
    · omega
theorem o_hull {b : Nat} {st : St} {p1 p2 : Int32} {K E : St → Prop} (hI : Inv (b + 1) st) (hK' : ∀ s, Inv b s → K s) : w_X0_hull st p1 p2 (fun s r => w_X4_hull s p1 p2 (fun s' r' => (r = r' → K s') ∧ (¬ r = r' → E s'))) := by
  obtain ⟨hN, hc1, hc2⟩ := Rm1 hI
  obtain ⟨K', G, M, N, hs⟩ := Hs_of hI
  have hh := hs
  obtain ⟨q1, q2, q3, q4, q5, q6, q7, q8, q9, q10, q11, q12, q13, q14, q15, q16⟩ := hh
  have hp15 := pt15 q1 q2
  have h138 : pR st 138 = (0, 1) := by obtain ⟨a1, a2⟩ := iNt hI; unfold pR; rw [a1, a2]
  refine e_hull ?_
  rw [q13, sub1_64 (by omega) (by omega)]
  unfold w_X0_hull_b23
  refine needL (M := fun s Ψ => w_X4_hull s p1 p2 Ψ) hI hK' (by decide) (fun hc => ?_) (fun hc s2 f2 Φ h => ?_)
  · obtain ⟨h1, h2⟩ := Bool.and_eq_true_iff.mp hc
    clear hc
    obtain ⟨p, g1, rfl⟩ := inB_nat (m := ptN K' G - 1) (by omega) rfl h1
    have hp : p < ptN K' G := by omega
    obtain ⟨r, hR⟩ := HuR_ex (K := K') (G := G) (M := M) (N := N) (p := p) (f := gmF st) q1 q2 K' 1 (some none) (by omega) (by omega)
    -- the reference
    have hm : ∀ s, 201 ≤ sN s → Hs s K' G M N → gmF s = gmF st → ∀ Φ : St → Int64 → Prop, (∀ b, r = some (some b) → ∀ s3, Fr wHm 0 0 s s3 → Φ s3 (if p2 = 0 then b.2.2.1 else b.2.2.2)) → (r = none → ∀ s3, Fr wHm 0 0 s s3 → w_X4_findsFar s3 6 Φ) → w_X4_hull s (Int32.ofNat p) p2 Φ := fun s hNs hss gs Φ k1 k2 => by
      unfold w_X4_hull
      rw [pe_X4_isPoint hss.2.2.2.2.1 hss.2.2.2.2.2.1 q1 q2, h1, ib_z]
      refine ⟨fun h => (by cases h), fun _ => ?_⟩
      rw [pe_X4_isPart, h2, ib_nz, ib_z]
      refine ⟨fun _ => m_hullRun hNs hss hp (by rw [gs]; exact hR) (fun s' F' B e1 e2 => ?_), fun h => (by cases h)⟩
      cases hr : r with
      | none =>
        rw [hr] at B
        have c9 : sI s' 175 20 = 1 := B
        rw [c9]
        exact ⟨fun h => absurd h (by decide), fun _ => k2 hr s' F'⟩
      | some o =>
        cases ho : o with
        | none => rw [hr, ho] at hR; exact absurd rfl (HuR_some q1 hp hR)
        | some b =>
          rw [ho] at hr
          rw [hr] at B
          obtain ⟨c9, -, -, -, -, v9, -⟩ := B
          have v18 : sL s' 175 18 = b.2.2.1 := by rw [e1, ← v9]
          have v19 : sL s' 175 19 = b.2.2.2 := by rw [e2, ← v9]
          have k9 := k1 b hr s' F'
          rw [c9, v18, v19]
          refine ⟨fun _ => ⟨fun hp2 => ?_, fun hp2 => ?_⟩, fun h => absurd rfl h⟩
          · rw [if_neg hp2] at k9; exact k9
          · rw [if_pos hp2] at k9; exact k9
    refine x_hullNow hN hs h138 hp hR (fun b hb s' F B => ?_) (fun hr s' F => ?_)
    · have hNs : 201 ≤ sN s' := Nat.le_trans hN F.1
      obtain ⟨hs', g'⟩ := Hs_W (k := 0) (Fr_mo F (fun _ _ h => Or.inl h) (Nat.le_refl _) (Nat.le_refl _)) hN wHX_n hs
      obtain ⟨-, -, -, v140, -⟩ := B
      have v1 : sL s' 140 0 = b.2.2.1 := congrArg Prod.fst v140
      have v2 : sL s' 140 1 = b.2.2.2 := congrArg Prod.snd v140
      have fin : ∀ x, x = (if p2 = 0 then b.2.2.1 else b.2.2.2) → w_X4_hull s' (Int32.ofNat p) p2 (fun s'' r' => (x = r' → K s'') ∧ (¬ x = r' → E s'')) := fun x hx => by
        refine hm s' hNs hs' g' _ (fun b' hb' s3 f3 => ?_) (fun hr => by rw [hb] at hr; cases hr)
        rw [hb] at hb'
        cases hb'
        exact ⟨fun _ => hK' _ (Inv_q hI (Fr_tr (x := 0) (y := 0) (Fr_mo F wHX_Q (Nat.le_refl _) (Nat.le_refl _)) (Fr_mo f3 wHm_Q (Nat.le_refl _) (Nat.le_refl _))) (by omega) (by omega)), fun h => absurd hx h⟩
      unfold w_X2_part
      rw [v1, v2]
      exact ⟨fun hp2 => fin _ (by rw [if_neg hp2]), fun hp2 => fin _ (by rw [if_pos hp2])⟩
    · refine bigL (M := fun s Ψ => w_X4_hull s (Int32.ofNat p) p2 Ψ) hI hK' wHX_Q F (fun s2 f2 Φ h => ?_)
      obtain ⟨hs2, g2⟩ := Hs_W f2 hN wHX_n hs
      have hN2 : 201 ≤ sN s2 := Nat.le_trans hN f2.1
      refine hm s2 hN2 hs2 g2 Φ (fun b' hb' => by rw [hr] at hb'; cases hb') (fun _ s3 f3 => ?_)
      exact m_errQL (k := 6) (by decide) (Fr_mo f3 wHm_Q (Nat.le_refl _) (Nat.le_refl _)) hN2 h
  · show w_X4_hull s2 _ _ _
    unfold w_X4_hull w_X4_hull_b15
    rw [pe_X4_isPoint ((q_at f2 hN (by omega) (nQ_177 (by omega)) (by omega)).1.trans q5) ((q_at f2 hN (by omega) (nQ_177 (by omega)) (by omega)).1.trans q6) q1 q2, ib_z]
    refine ⟨fun _ => h, fun g1 => ?_⟩
    rw [pe_X4_isPart, ib_nz, ib_z]
    refine ⟨fun g4 => ?_, fun _ => h⟩
    rcases b_or hc with c | c
    · exact absurd c g1
    · rw [c] at g4; cases g4
