/-! PLAIN LAW, 12: errors on both sides at once; sheets; the line -/
set_option maxRecDepth 100000
/-- cells that no part rests on -/
def Qt (a j : Nat) : Prop := a < 201 ∧ ¬ REr a j ∧ ¬ RHr 2 177 a j ∧ ¬ RIm a j ∧ ¬ RZz a j ∧ ¬ RPy a j ∧ ¬ RTp a j ∧ ¬ RLi a j ∧ ¬ RSx a j ∧ ¬ RNt a j
def QE (c k a j : Nat) : Prop := Qt a j ∨ (a = c ∧ j = k)
theorem Inv_q {b x y : Nat} {st st' : St} (hI : Inv (b + 1) st) (hF : Fr Qt x y st st') (hx : x ≤ 49990) (hy : y ≤ 228000) : Inv b st' := by
  obtain ⟨r1, r2, r3, r4, r5, r6, r7, r8, r9, r10, r11⟩ := Inv_fr hI hF hx hy (fun a j h hw => by have := hw.1; omega)
  exact ⟨r1, r2, r3 (fun a j h hw => hw.2.1 h), r4 (fun a j h hw => hw.2.2.1 h), r5 (fun a j h hw => hw.2.2.2.1 h), r6 (fun a j h hw => hw.2.2.2.2.1 h), r7 (fun a j h hw => hw.2.2.2.2.2.1 h), r8 (fun a j h hw => hw.2.2.2.2.2.2.1 h), r9 (fun a j h hw => hw.2.2.2.2.2.2.2.1 h), r10 (fun a j h hw => hw.2.2.2.2.2.2.2.2.1 h), r11 (fun a j h hw => hw.2.2.2.2.2.2.2.2.2 h)⟩
theorem gN_jk {st : St} {a b : Nat} : sN (jk st a b) = sN st + a := Eq.trans rfl rfl
theorem gS_jk {st : St} {a b : Nat} : sS (jk st a b) = sS st + b := Eq.trans rfl rfl
theorem gI_jk {st : St} {a b c k : Nat} : sI (jk st a b) c k = sI st c k := Eq.trans rfl rfl
theorem gL_jk {st : St} {a b c k : Nat} : sL (jk st a b) c k = sL st c k := Eq.trans rfl rfl
theorem gR_jk {st : St} {a b c k : Nat} : sR (jk st a b) c k = sR st c k := Eq.trans rfl rfl
theorem gs_jk {st : St} {a b : Nat} : sh (jk st a b) = sh st := Eq.trans rfl rfl
theorem gl_jk {st : St} {a b : Nat} : ln (jk st a b) = ln st := Eq.trans rfl rfl
theorem Fr_jk {st s1 : St} {W : Nat → Nat → Prop} {x y a b : Nat} (h : Fr W x y st s1) : Fr W (x + a) (y + b) st (jk s1 a b) := by
  obtain ⟨h1, h2, h3, h4⟩ := h
  refine ⟨by rw [gN_jk]; omega, by rw [gN_jk]; omega, by rw [gS_jk]; omega, fun c hc => ?_⟩
  obtain ⟨e1, e2, e3⟩ := h4 c hc
  refine ⟨by rw [gs_jk]; exact e1, by rw [gl_jk]; exact e2, fun j hj => ?_⟩
  obtain ⟨i1, i2, i3⟩ := e3 j hj
  exact ⟨by rw [gI_jk]; exact i1, by rw [gL_jk]; exact i2, by rw [gR_jk]; exact i3⟩
theorem Qt_1 {k : Nat} : ¬ Qt 1 k := fun h => h.2.1 (Or.inl rfl)
theorem Qt_176 {k : Nat} : ¬ Qt 176 k := fun h => h.2.1 (Or.inr rfl)
theorem QE_ok {c k : Nat} (hc : c < 201) : ∀ a j, QE c k a j → a < 201 ∧ ((a = c ∧ j = k) ∨ (¬ REr a j ∧ ¬ RHr 2 177 a j ∧ ¬ RIm a j ∧ ¬ RZz a j ∧ ¬ RPy a j ∧ ¬ RTp a j ∧ ¬ RLi a j ∧ ¬ RSx a j ∧ ¬ RNt a j)) := fun a j h => by
  rcases h with h | h
  · exact ⟨h.1, Or.inr h.2⟩
  · exact ⟨by have := h.1; omega, Or.inl h⟩
/-- an error of the component behind quiet writes -/
theorem x_errQ {st st1 : St} {k : Nat} {Φ : St → Int32 → Prop} (hk : k < 9) {x y : Nat} {e : Nat} (h1 : Fr Qt x y st st1) (he : sN st ≤ e) (h2 : sI st1 e 6 = Int32.ofNat k) (hN : 201 ≤ sN st) (h : ∀ st2, Fr (QE 1 k) x y st st2 → sI st2 1 k = sI st 1 k + 1 → Φ st2 ((-1000000000) - Int32.ofNat k)) : w_X0_answers st1 e Φ := by
  unfold w_X0_answers
  rw [h2, vp_of (by omega), nn_of (by omega)]
  refine ⟨hk, ?_⟩
  rintro _ rfl
  rw [gI_pI, if_neg (by omega), h2]
  refine h _ (Fr_I (Fr_mo h1 (fun _ _ h => Or.inl h) (Nat.le_refl _) (Nat.le_refl _)) (Or.inl (Or.inr ⟨rfl, rfl⟩))) ?_
  rw [gI_pI, if_pos ⟨rfl, rfl⟩, (fr_at h1 (Or.inl (by omega)) Qt_1).1]
theorem x_errQL {st st1 : St} {k : Nat} {Φ : St → Int64 → Prop} (hk : k < 9) {x y : Nat} {e : Nat} (h1 : Fr Qt x y st st1) (he : sN st ≤ e) (h2 : sI st1 e 6 = Int32.ofNat k) (hN : 201 ≤ sN st) (h : ∀ st2, Fr (QE 1 k) x y st st2 → sI st2 1 k = sI st 1 k + 1 → Φ st2 ((-9000000000000000000) - (Int32.ofNat k).toInt64)) : w_X0_answersFar st1 e Φ := by
  unfold w_X0_answersFar
  rw [h2, vp_of (by omega), nn_of (by omega)]
  refine ⟨hk, ?_⟩
  rintro _ rfl
  rw [gI_pI, if_neg (by omega), h2]
  refine h _ (Fr_I (Fr_mo h1 (fun _ _ h => Or.inl h) (Nat.le_refl _) (Nat.le_refl _)) (Or.inl (Or.inr ⟨rfl, rfl⟩))) ?_
  rw [gI_pI, if_pos ⟨rfl, rfl⟩, (fr_at h1 (Or.inl (by omega)) Qt_1).1]
theorem m_errQ {st st1 : St} {k : Nat} {Φ : St → Int32 → Prop} (hk : k < 9) {x y : Nat} (h1 : Fr Qt x y st st1) (hN : 201 ≤ sN st) (h : ∀ st2, Fr (QE 176 k) x y st st2 → sI st2 176 k = sI st 176 k + 1 → Φ st2 ((-1000000000) - Int32.ofNat k)) : w_X4_finds st1 (Int32.ofNat k) Φ := by
  unfold w_X4_finds
  rw [vp_of (by omega), nn_of (by omega)]
  refine ⟨hk, ?_⟩
  rintro _ rfl
  refine h _ (Fr_I (Fr_mo h1 (fun _ _ h => Or.inl h) (Nat.le_refl _) (Nat.le_refl _)) (Or.inl (Or.inr ⟨rfl, rfl⟩))) ?_
  rw [gI_pI, if_pos ⟨rfl, rfl⟩, (fr_at h1 (Or.inl (by omega)) Qt_176).1]
theorem m_errQL {st st1 : St} {k : Nat} {Φ : St → Int64 → Prop} (hk : k < 9) {x y : Nat} (h1 : Fr Qt x y st st1) (hN : 201 ≤ sN st) (h : ∀ st2, Fr (QE 176 k) x y st st2 → sI st2 176 k = sI st 176 k + 1 → Φ st2 ((-9000000000000000000) - (Int32.ofNat k).toInt64)) : w_X4_findsFar st1 (Int32.ofNat k) Φ := by
  unfold w_X4_findsFar
  rw [vp_of (by omega), nn_of (by omega)]
  refine ⟨hk, ?_⟩
  rintro _ rfl
  refine h _ (Fr_I (Fr_mo h1 (fun _ _ h => Or.inl h) (Nat.le_refl _) (Nat.le_refl _)) (Or.inl (Or.inr ⟨rfl, rfl⟩))) ?_
  rw [gI_pI, if_pos ⟨rfl, rfl⟩, (fr_at h1 (Or.inl (by omega)) Qt_176).1]
/-- both sides answer the error -/
theorem errQ {b : Nat} {st : St} {K E : St → Prop} {k : Nat} {M : St → (St → Int32 → Prop) → Prop} (hI : Inv (b + 1) st) (hK : ∀ s, Inv b s → K s) (hk : k < 9) {st1 : St} {e x y : Nat} (x2 y2 : Nat) (f1 : Fr Qt x y st st1) (he : sN st ≤ e) (e1 : sI st1 e 6 = Int32.ofNat k) (hx : x + x2 ≤ 49990) (hy : y + y2 ≤ 228000) (hm : ∀ s2, Fr (QE 1 k) x y st s2 → ∀ Φ : St → Int32 → Prop, (∀ s3, Fr (QE 176 k) x2 y2 s2 s3 → sI s3 176 k = sI s2 176 k + 1 → Φ s3 ((-1000000000) - Int32.ofNat k)) → M s2 Φ) : w_X0_answers st1 e (fun s r => M s (fun s' r' => (r = r' → K s') ∧ (¬ r = r' → E s'))) :=
  x_errQ hk f1 he e1 hI.1.1 (fun s2 f2 e2 => hm s2 f2 _ (fun _ f3 e3 => ⟨fun _ => hK _ (err_fin hk hI f2 f3 e2 e3 hx hy (QE_ok (by omega)) (QE_ok (by omega))), fun h => absurd rfl h⟩))
theorem errQL {b : Nat} {st : St} {K E : St → Prop} {k : Nat} {M : St → (St → Int64 → Prop) → Prop} (hI : Inv (b + 1) st) (hK : ∀ s, Inv b s → K s) (hk : k < 9) {st1 : St} {e x y : Nat} (x2 y2 : Nat) (f1 : Fr Qt x y st st1) (he : sN st ≤ e) (e1 : sI st1 e 6 = Int32.ofNat k) (hx : x + x2 ≤ 49990) (hy : y + y2 ≤ 228000) (hm : ∀ s2, Fr (QE 1 k) x y st s2 → ∀ Φ : St → Int64 → Prop, (∀ s3, Fr (QE 176 k) x2 y2 s2 s3 → sI s3 176 k = sI s2 176 k + 1 → Φ s3 ((-9000000000000000000) - (Int32.ofNat k).toInt64)) → M s2 Φ) : w_X0_answersFar st1 e (fun s r => M s (fun s' r' => (r = r' → K s') ∧ (¬ r = r' → E s'))) :=
  x_errQL hk f1 he e1 hI.1.1 (fun s2 f2 e2 => hm s2 f2 _ (fun _ f3 e3 => ⟨fun _ => hK _ (err_fin hk hI f2 f3 e2 e3 hx hy (QE_ok (by omega)) (QE_ok (by omega))), fun h => absurd rfl h⟩))
theorem noQ {W : Nat → Nat → Prop} : ∀ a j, noW a j → W a j := fun _ _ h => h.elim
/-- the reference finds it at once -/
theorem errI {b : Nat} {st : St} {K E : St → Prop} {k : Nat} {M : St → (St → Int32 → Prop) → Prop} (hI : Inv (b + 1) st) (hK : ∀ s, Inv b s → K s) (hk : k < 9) {st1 : St} {e x y : Nat} (f1 : Fr noW x y st st1) (he : sN st ≤ e) (e1 : sI st1 e 6 = Int32.ofNat k) (hx : x ≤ 49990) (hy : y ≤ 228000) (hm : ∀ s2, Fr (QE 1 k) x y st s2 → ∀ Φ : St → Int32 → Prop, w_X4_finds s2 (Int32.ofNat k) Φ → M s2 Φ) : w_X0_answers st1 e (fun s r => M s (fun s' r' => (r = r' → K s') ∧ (¬ r = r' → E s'))) :=
  errQ hI hK hk 0 0 (Fr_mo f1 noQ (Nat.le_refl _) (Nat.le_refl _)) he e1 hx hy (fun s2 f2 Φ h => hm s2 f2 Φ (m_errQ hk Fr_rf (Nat.le_trans hI.1.1 f2.1) h))
theorem errL {b : Nat} {st : St} {K E : St → Prop} {k : Nat} {M : St → (St → Int64 → Prop) → Prop} (hI : Inv (b + 1) st) (hK : ∀ s, Inv b s → K s) (hk : k < 9) {st1 : St} {e x y : Nat} (f1 : Fr noW x y st st1) (he : sN st ≤ e) (e1 : sI st1 e 6 = Int32.ofNat k) (hx : x ≤ 49990) (hy : y ≤ 228000) (hm : ∀ s2, Fr (QE 1 k) x y st s2 → ∀ Φ : St → Int64 → Prop, w_X4_findsFar s2 (Int32.ofNat k) Φ → M s2 Φ) : w_X0_answersFar st1 e (fun s r => M s (fun s' r' => (r = r' → K s') ∧ (¬ r = r' → E s'))) :=
  errQL hI hK hk 0 0 (Fr_mo f1 noQ (Nat.le_refl _) (Nat.le_refl _)) he e1 hx hy (fun s2 f2 Φ h => hm s2 f2 Φ (m_errQL hk Fr_rf (Nat.le_trans hI.1.1 f2.1) h))
theorem needI {b : Nat} {st : St} {K E : St → Prop} {k : Nat} {c : Bool} {Φ : St → Prop} {M : St → (St → Int32 → Prop) → Prop} (hI : Inv (b + 1) st) (hK : ∀ s, Inv b s → K s) (hk : k < 9) (h1 : c = true → Φ st) (hm : c = false → ∀ s2, Fr (QE 1 k) 1 7 st s2 → ∀ Φ : St → Int32 → Prop, w_X4_finds s2 (Int32.ofNat k) Φ → M s2 Φ) : w_X0_need st (ib c) (Int32.ofNat k) Φ (fun s a => w_X0_answers s a (fun s r => M s (fun s' r' => (r = r' → K s') ∧ (¬ r = r' → E s')))) := by
  obtain ⟨hN, hc1, hc2⟩ := Rm1 hI
  exact s_need h1 (fun hc => ⟨by omega, by omega, fun st1 f1 e1 => errI hI hK hk f1 (Nat.le_refl _) e1 (by omega) (by omega) (hm hc)⟩)
theorem needL {b : Nat} {st : St} {K E : St → Prop} {k : Nat} {c : Bool} {Φ : St → Prop} {M : St → (St → Int64 → Prop) → Prop} (hI : Inv (b + 1) st) (hK : ∀ s, Inv b s → K s) (hk : k < 9) (h1 : c = true → Φ st) (hm : c = false → ∀ s2, Fr (QE 1 k) 1 7 st s2 → ∀ Φ : St → Int64 → Prop, w_X4_findsFar s2 (Int32.ofNat k) Φ → M s2 Φ) : w_X0_need st (ib c) (Int32.ofNat k) Φ (fun s a => w_X0_answersFar s a (fun s r => M s (fun s' r' => (r = r' → K s') ∧ (¬ r = r' → E s')))) := by
  obtain ⟨hN, hc1, hc2⟩ := Rm1 hI
  exact s_need h1 (fun hc => ⟨by omega, by omega, fun st1 f1 e1 => errL hI hK hk f1 (Nat.le_refl _) e1 (by omega) (by omega) (hm hc)⟩)
theorem QE_no {c k a j : Nat} (h1 : ¬ Qt a j) (h2 : a ≠ c) : ¬ QE c k a j := fun h => by
  rcases h with h | h
  · exact h1 h
  · exact h2 h.1
theorem nQ_177 {j : Nat} (h : j < 96) : ¬ Qt 177 j := fun q => q.2.2.1 (Or.inr (Or.inl ⟨rfl, h⟩))
/-! small readers -/
theorem sub1z {n : Nat} (h : n < 2 ^ 31) : (Int32.ofNat n - 1).toInt64 = Int64.ofInt ((n : Int) - 1) := by
  apply Int64.toInt_inj.mp
  rw [Int32.toInt_toInt64, Int32.toInt_sub, ti_of h, show (1 : Int32).toInt = 1 by decide, Int.bmod_eq_of_le (by omega) (by omega), ti_64 (by omega) (by omega)]
theorem lt0_32 (p : Int32) : (p < 0) = (p.toInt < 0) := by rw [Int32.lt_iff_toInt_lt]; rfl
theorem vp_ex {p : Int32} {n : Nat} (h : vp_in p n) : ∃ i, p = Int32.ofNat i ∧ i < n ∧ i < 2 ^ 31 := by
  by_cases h0 : 0 ≤ p.toInt
  · obtain ⟨m, rfl, e2, e3⟩ := of_ti h0
    rw [vp_of e3] at h
    exact ⟨m, rfl, h, e3⟩
  · exfalso
    unfold vp_in at h
    have hz : p < 0 := by rw [lt0_32]; omega
    simp only [hz, true_or, not_true_eq_false] at h
theorem inB_vp {p : Int32} {n : Nat} (hn : n < 2 ^ 31) : (inB p.toInt64 0 (Int32.ofNat n - 1).toInt64 = true) = vp_in p n := by
  rw [sub1z hn, show (0 : Int64) = Int64.ofInt 0 from rfl, inB_i (by omega) (by omega) (by omega) (by omega), decide_eq_true_eq]
  apply propext
  constructor
  · intro h
    obtain ⟨m, rfl, e2, e3⟩ := of_ti h.1
    rw [vp_of e3]; omega
  · intro h
    obtain ⟨m, rfl, e2, e3⟩ := vp_ex h
    rw [ti_of e3]; omega
theorem eq_ti {p : Int32} {z : Int} (k : Int32) (hk : k.toInt = z) : (p = k) = (p.toInt = z) := by
  apply propext
  rw [← hk]
  exact ⟨fun h => by rw [h], fun h => Int32.toInt_inj.mp h⟩
theorem pe_X4_isPart {p : Int32} {Φ : Int32 → Prop} : w_X4_isPart p Φ = Φ (ib (inB p.toInt64 0 1)) := by
  unfold w_X4_isPart w_X4_isPart_b9
  rw [show (1 : Int64) = Int64.ofInt 1 from rfl, show (0 : Int64) = Int64.ofInt 0 from rfl, inB_i (by omega) (by omega) (by omega) (by omega)]
  have e0 : (p = 0) = (p.toInt = 0) := eq_ti 0 rfl
  have e1 : (p = 1) = (p.toInt = 1) := eq_ti 1 rfl
  have e2 : (p ≠ 1) = (¬ p.toInt = 1) := by rw [ne_eq, e1]
  rw [e2, e0, e1]
  by_cases h0 : p.toInt = 0
  · have : 0 ≤ p.toInt ∧ p.toInt ≤ 1 := by omega
    simp [h0, ib]
  · by_cases h1 : p.toInt = 1
    · simp [h1, ib]
    · have : ¬ (0 ≤ p.toInt ∧ p.toInt ≤ 1) := by omega
      simp [h0, h1, this, ib]
theorem pe_X4_isSheet {p : Int32} {Φ : Int32 → Prop} : w_X4_isSheet p Φ = Φ (ib (inB p.toInt64 0 4)) := by
  unfold w_X4_isSheet
  exact lt0_le (k := 5) (by omega) (by omega)
/-! sheets -/
def lostB (st : St) (k : Nat) (p : Int32) : Bool := decide (sI st 186 k = 0) || !(inB p.toInt64 0 ((sI st 187 k) - 1).toInt64)
theorem pe_X4_isLost {st : St} {k : Nat} {p : Int32} {Φ : Int32 → Prop} (hk : k < 5) : w_X4_isLost st (Int32.ofNat k) p Φ = Φ (ib (lostB st k p)) := by
  unfold w_X4_isLost w_X4_isLost_b27 lostB
  rw [vp_of (by omega), nn_of (by omega)]
  simp only [pe_X4_isIn, ib_nz, ib_z]
  by_cases h : sI st 186 k = 0 <;> cases inB p.toInt64 0 ((sI st 187 k) - 1).toInt64 <;> simp [h, ib, hk]
theorem pe_X4_numberAt {st : St} {k i : Nat} {Φ : Int64 → Prop} (hk : k < 5) (hi : i < 60) : w_X4_numberAt st (Int32.ofNat k) (Int32.ofNat i) Φ = Φ (sL st 185 (60 * k + i)) := by
  unfold w_X4_numberAt
  have e : 60 * Int32.ofNat k + Int32.ofNat i = Int32.ofNat (60 * k + i) := by simp only [Int32.ofNat_add, Int32.ofNat_mul]; rfl
  rw [e, vp_of (by omega), nn_of (by omega)]
  simp only [show 60 * k + i < 300 by omega, true_and]
theorem s_junk {st : St} {A B : Nat} {k : Int32} {Φw : St → Nat → Prop} (h1 : sN st + A + 1 ≤ gCAP) (h2 : sS st + B + 7 ≤ gCAPS) (h : ∀ st' e, Fr noW (A + 1) (B + 7) st st' → sN st ≤ e → sI st' e 6 = k → Φw st' e) : sN st + A ≤ gCAP ∧ sS st + B ≤ gCAPS ∧ ∀ a7 b8, a7 ≤ A → b8 ≤ B → ∀ s10, s10 = jk st a7 b8 → sN s10 + 1 ≤ gCAP ∧ sS s10 + 7 ≤ gCAPS ∧ ∀ s14, s14 = mk s10 6 7 → w_X5_init s14 (sN s10) k (fun (s20 : St) => Φw s20 (sN s10)) := by
  refine ⟨by omega, by omega, fun a b ha hb => ?_⟩
  rintro _ rfl
  rw [gN_jk, gS_jk]
  refine ⟨by omega, by omega, ?_⟩
  rintro _ rfl
  have hg : sN (jk st a b) < gBIG := by rw [gN_jk]; unfold gCAP at h1; unfold gBIG; omega
  refine s_X5_init (fun st' e1 e2 e3 e4 e5 => h st' _ ?_ (by omega) e2)
  have h9 := Fr_mo (z := A + 1) (w := B + 7) (Fr_mk (c := 6) (n := 7) (Fr_jk (a := a) (b := b) (Fr_rf (W := noW) (st := st))) hg) (fun _ _ h => h) (by omega) (by omega)
  exact e1 noW (A + 1) (B + 7) st h9 (by omega) (by rw [gN_jk] at hg; exact hg)
theorem s_get {st : St} {k : Nat} {p : Int32} {Φ : St → Int64 → Prop} {Φw : St → Nat → Prop} (hS : Sk st k) (hN : sN st + 4 ≤ gCAP) (hs : sS st + 229 ≤ gCAPS) (h1 : lostB st k p = false → ∀ i, p = Int32.ofNat i → i < 60 → Φ st (sL st 185 (60 * k + i))) (h2 : lostB st k p = true → ∀ st' e, Fr noW 4 229 st st' → sN st ≤ e → sI st' e 6 = 8 → Φw st' e) : w_X3_get st (170 + k) p Φ Φw := by
  unfold w_X3_get
  rcases hS with ⟨a1, a2, a3⟩ | ⟨v, n, a1, a2, a3, a4, a5, a6, a7, a8⟩
  · have hl : lostB st k p = true := by unfold lostB; rw [a2]; rfl
    refine ⟨Or.inl a1, fun _ => s_junk (A := 1) (B := 8) (by omega) (by omega) (fun st' e f g1 g2 => h2 hl st' e (Fr_mo f (fun _ _ h => h) (by omega) (by omega)) g1 g2), fun r1 hr => ?_, fun r1 hr => ?_⟩ <;> (rw [a1] at hr; cases hr)
  · have hb : sI st 186 k ≠ 0 := by rcases a8 with ⟨-, g, -⟩ | ⟨-, g, -⟩ <;> rw [g] <;> decide
    have hl : lostB st k p = !(inB p.toInt64 0 (Int32.ofNat n - 1).toInt64) := by unfold lostB; rw [a7]; simp only [hb, decide_false, Bool.false_or]
    have hv := inB_vp (p := p) (n := n) (by omega)
    have h3 : vp_in p n → ∀ i, p = Int32.ofNat i → i < 60 → Φ st (sL st 185 (60 * k + i)) := fun hh => h1 (by rw [hl, hv.mpr hh]; rfl)
    have h4 : ¬ vp_in p n → ∀ st' e, Fr noW 4 229 st st' → sN st ≤ e → sI st' e 6 = 8 → Φw st' e := fun hh => h2 (by
      rw [hl]
      cases hc : inB p.toInt64 0 (Int32.ofNat n - 1).toInt64
      · rfl
      · exact absurd (hv.mp hc) hh)
    refine ⟨Or.inr ⟨v, a1, a4, by rcases a8 with ⟨g, -⟩ | ⟨g, -⟩ <;> simp [g]⟩, fun hr => (by rw [a1] at hr; cases hr), fun r1 hr hg h106 => ?_, fun r1 hr hg h102 => ?_⟩
    · rw [a1] at hr
      cases hr
      rcases a8 with ⟨g1, g2, g3⟩ | ⟨g1, -⟩
      · rw [a6]
        refine ⟨fun hh => ?_, fun hh => ⟨by omega, s_junk (A := 3) (B := 222) (by omega) (by omega) (h4 hh)⟩⟩
        obtain ⟨i, rfl, i1, i2⟩ := vp_ex hh
        rw [nn_of i2, g3 i i1]
        exact h3 hh i rfl (by omega)
      · rw [g1] at h106; cases h106
    · rw [a1] at hr
      cases hr
      rcases a8 with ⟨g1, -⟩ | ⟨g1, g2, g3⟩
      · rw [g1] at h102; cases h102
      · rw [a6]
        refine ⟨fun hh => ?_, fun hh => ⟨by omega, s_junk (A := 3) (B := 222) (by omega) (by omega) (h4 hh)⟩⟩
        obtain ⟨i, rfl, i1, i2⟩ := vp_ex hh
        rw [nn_of i2, g3 i i1]
        exact h3 hh i rfl (by omega)
theorem s_shsize {st : St} {k : Nat} {Φ : St → Int32 → Prop} {Φw : St → Nat → Prop} (hS : Sk st k) (hN : sN st + 4 ≤ gCAP) (hs : sS st + 229 ≤ gCAPS) (h1 : sI st 186 k ≠ 0 → ∀ n, n ≤ 60 → sI st 187 k = Int32.ofNat n → Φ st (Int32.ofNat n)) (h2 : sI st 186 k = 0 → ∀ st' e, Fr noW 4 229 st st' → sN st ≤ e → sI st' e 6 = 8 → Φw st' e) : w_X3_size st (170 + k) Φ Φw := by
  unfold w_X3_size
  rcases hS with ⟨a1, a2, a3⟩ | ⟨v, n, a1, a2, a3, a4, a5, a6, a7, a8⟩
  · refine ⟨Or.inl a1, fun _ => s_junk (A := 1) (B := 8) (by omega) (by omega) (fun st' e f g1 g2 => h2 a2 st' e (Fr_mo f (fun _ _ h => h) (by omega) (by omega)) g1 g2), fun r1 hr => ?_, fun r1 hr => ?_⟩ <;> (rw [a1] at hr; cases hr)
  · have hb : sI st 186 k ≠ 0 := by rcases a8 with ⟨-, g, -⟩ | ⟨-, g, -⟩ <;> rw [g] <;> decide
    refine ⟨Or.inr ⟨v, a1, a4, by rcases a8 with ⟨g, -⟩ | ⟨g, -⟩ <;> simp [g]⟩, fun hr => (by rw [a1] at hr; cases hr), fun r1 hr hg h106 => ?_, fun r1 hr hg h102 => ?_⟩
    · rw [a1] at hr
      cases hr
      rw [a6]; exact h1 hb n a5 a7
    · rw [a1] at hr
      cases hr
      rw [a6]; exact h1 hb n a5 a7
theorem Sk_q {W : Nat → Nat → Prop} {x y : Nat} {st st' : St} (hF : Fr W x y st st') (hN : 201 ≤ sN st) (hW : ∀ a j, RSx a j → ¬ W a j) (h : Sx st) {k : Nat} (hk : k < 5) : Sk st' k := (Sx_fr hF hN hW h).1 k hk
theorem o_number {b : Nat} {st : St} {p1 p2 : Int32} {K E : St → Prop} (hI : Inv (b + 1) st) (hK : ∀ s, Inv b s → K s) : w_X0_number st p1 p2 (fun s r => w_X4_number s p1 p2 (fun s' r' => (r = r' → K s') ∧ (¬ r = r' → E s'))) := by
  obtain ⟨hN, hc1, hc2⟩ := Rm1 hI
  unfold w_X0_number
  rw [pe_X0_isSheet]
  refine needL (M := fun s Ψ => w_X4_number s p1 p2 Ψ) hI hK (by decide) (fun hc => ?_) (fun hc s2 f2 Φ h => ?_)
  · obtain ⟨k, k1, rfl⟩ := inB_nat (m := 4) (by omega) rfl hc
    rw [vp_of (by omega), nn_of (by omega)]
    refine ⟨by omega, s_get (hI.2.2.2.2.2.2.2.2.2.1.1 k (by omega)) (by omega) (by omega) (fun hl i hi i2 => ?_) (fun hl st1 e f1 he e1 => errL (M := fun s Ψ => w_X4_number s (Int32.ofNat k) p2 Ψ) hI hK (k := 8) (by decide) f1 he e1 (by omega) (by omega) (fun s2 f2 Φ h => ?_))⟩
    · subst hi
      show w_X4_number st _ _ _
      unfold w_X4_number
      rw [pe_X4_isSheet, hc, ib_nz, ib_z]
      refine ⟨fun _ => ?_, fun h => (by cases h)⟩
      rw [pe_X4_isLost (by omega), hl, ib_z]
      refine ⟨fun _ => ?_, fun h => absurd rfl h⟩
      rw [pe_X4_numberAt (by omega) (by omega)]
      exact ⟨fun _ => hK _ (Inv_id hI), fun h => absurd rfl h⟩
    · show w_X4_number s2 _ _ _
      unfold w_X4_number
      rw [pe_X4_isSheet, hc, ib_nz, ib_z]
      refine ⟨fun _ => ?_, fun h => (by cases h)⟩
      have e6 : ∀ a j, RSx a j → a < 201 → sI s2 a j = sI st a j := fun a j hr ha => (fr_at f2 (Or.inl (by omega)) (QE_no (fun q => q.2.2.2.2.2.2.2.2.1 hr) (by unfold RSx at hr; omega))).1
      have hl2 : lostB s2 k p2 = true := by unfold lostB at hl ⊢; rw [e6 186 k (by unfold RSx; omega) (by omega), e6 187 k (by unfold RSx; omega) (by omega)]; exact hl
      rw [pe_X4_isLost (by omega), hl2, ib_z]
      exact ⟨fun h => (by cases h), fun _ => h⟩
  · show w_X4_number s2 _ _ _
    unfold w_X4_number
    rw [pe_X4_isSheet, hc, ib_nz, ib_z]
    exact ⟨fun h => (by cases h), fun _ => h⟩
theorem iHr {b : Nat} {st : St} (hI : Inv b st) : Hr 2 177 st := hI.2.2.2.1
theorem iIm {b : Nat} {st : St} (hI : Inv b st) : Im b st := hI.2.2.2.2.1
theorem iZz {b : Nat} {st : St} (hI : Inv b st) : Zz st := hI.2.2.2.2.2.1
theorem iPy {b : Nat} {st : St} (hI : Inv b st) : Py st := hI.2.2.2.2.2.2.1
theorem iTp {b : Nat} {st : St} (hI : Inv b st) : Tp st := hI.2.2.2.2.2.2.2.1
theorem iLi {b : Nat} {st : St} (hI : Inv b st) : Li st := hI.2.2.2.2.2.2.2.2.1
theorem iSx {b : Nat} {st : St} (hI : Inv b st) : Sx st := hI.2.2.2.2.2.2.2.2.2.1
theorem iNt {b : Nat} {st : St} (hI : Inv b st) : Nt st := hI.2.2.2.2.2.2.2.2.2.2
