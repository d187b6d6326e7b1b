/-! PLAIN LAW, 11: averages -/
set_option maxRecDepth 100000
/-- the sum of what a point gives times the games' cells, over the first k states -/
def avS (K G p : Nat) (f : Nat → Int32) : Nat → Int32
  | 0 => 0
  | k + 1 => avS K G p f k + Int32.ofNat (ptV K G p k) * f k
theorem avS_cg {K G p : Nat} {f g : Nat → Int32} : ∀ k, (∀ i, i < k → f i = g i) → avS K G p f k = avS K G p g k
  | 0, _ => rfl
  | k + 1, h => by rw [avS, avS, avS_cg k (fun i hi => h i (by omega)), h k (by omega)]
theorem s_X1_average {st0 : St} {o K G p r c : Nat} {Φ : Int32 → Prop} (hK : K = 2 ∨ K = 3) (h0 : sI st0 o 0 = Int32.ofNat K) (hg : ∀ k, k < 3 → sI st0 (o + (16 + p)) k = Int32.ofNat (ptV K G p k)) (hp : p < 15) (hr : r < 3) (hc : c < 3) (h : Φ (avS K G p (fun k => sI st0 (o + (3 + 4 * k + r)) c) K)) : w_X1_average o st0 (Int32.ofNat p) (Int32.ofNat r) (Int32.ofNat c) Φ := by
  unfold w_X1_average
  refine loop_up (α := Int32 × Int32) (L := fun n a => w_X1_average_l6 o Φ (fun (_ : St) (x4 : Int32) => w_X1_average_b47 o Φ st0 x4) n st0 (Int32.ofNat p) (Int32.ofNat r) (Int32.ofNat c) a.1 a.2) K (fun i a => a = (avS K G p (fun k => sI st0 (o + (3 + 4 * k + r)) c) i, Int32.ofNat i)) (fun n i a hi hI k => ?_) (fun n a hI => ?_) gFU 0 (0, 0) (by omega) (gFU_big (by omega)) rfl
  · subst hI
    show w_X1_average_l6 o Φ _ (n + 1) st0 _ _ _ _ _
    rw [w_X1_average_l6]
    simp only
    rw [h0, le_of (by omega) (by omega), vp_of (by omega), vp_of (by omega), vp_of (by omega), vp_of (by omega), nn_of (by omega), nn_of (by omega), nn_of (by omega), nn_of (by omega)]
    refine ⟨fun h => absurd h (by omega), fun _ => ⟨by omega, by omega, by omega, by omega, ?_⟩⟩
    rintro _ rfl
    refine k (avS K G p (fun k => sI st0 (o + (3 + 4 * k + r)) c) i + sI st0 (o + (16 + p)) i * sI st0 (o + (3 + 4 * i + r)) c, Int32.ofNat i + 1) ?_
    rw [avS, hg i (by omega), succ_of]
  · subst hI
    show w_X1_average_l6 o Φ _ (n + 1) st0 _ _ _ _ _
    rw [w_X1_average_l6]
    simp only
    rw [h0]
    exact ⟨fun _ => h, fun h => absurd (Int32.le_refl _) h⟩
theorem s_X4_averageAt {st0 : St} {K G p r c : Nat} {Φ : Int32 → Prop} (hK : K = 2 ∨ K = 3) (hG : 1 ≤ G ∧ G ≤ 4) (h0 : sI st0 177 0 = Int32.ofNat K) (h1 : sI st0 177 1 = Int32.ofNat G) (hp : p < ptN K G) (hr : r < 3) (hc : c < 3) (h : Φ (avS K G p (fun k => sI st0 177 (4 + 9 * k + 3 * r + c)) K)) : w_X4_averageAt st0 (Int32.ofNat p) (Int32.ofNat r) (Int32.ofNat c) Φ := by
  unfold w_X4_averageAt
  refine loop_up (α := Int32 × Int32) (L := fun n a => w_X4_averageAt_l6 Φ (fun (_ : St) (x4 : Int32) => w_X4_averageAt_b48 Φ st0 x4) n st0 (Int32.ofNat p) (Int32.ofNat r) (Int32.ofNat c) a.1 a.2) K (fun i a => a = (avS K G p (fun k => sI st0 177 (4 + 9 * k + 3 * r + c)) i, Int32.ofNat i)) (fun n i a hi hI k => ?_) (fun n a hI => ?_) gFU 0 (0, 0) (by omega) (gFU_big (by omega)) rfl
  · subst hI
    show w_X4_averageAt_l6 Φ _ (n + 1) st0 _ _ _ _ _
    rw [w_X4_averageAt_l6]
    simp only
    rw [h0, le_of (by omega) (by omega)]
    refine ⟨fun h => absurd h (by omega), fun _ => ?_⟩
    refine s_X4_gives hK hG h0 h1 hp hi ?_
    rw [pe_X4_place (by omega) (by omega) (by omega), vp_of (by omega), nn_of (by omega)]
    refine ⟨by omega, ?_⟩
    rintro _ rfl
    refine k (avS K G p (fun k => sI st0 177 (4 + 9 * k + 3 * r + c)) i + Int32.ofNat (ptV K G p i) * sI st0 177 (4 + 9 * i + 3 * r + c), Int32.ofNat i + 1) ?_
    rw [avS, succ_of]
  · subst hI
    show w_X4_averageAt_l6 Φ _ (n + 1) st0 _ _ _ _ _
    rw [w_X4_averageAt_l6]
    simp only
    rw [h0]
    exact ⟨fun _ => h, fun h => absurd (Int32.le_refl _) h⟩
theorem pe_X1_isRow {o : Nat} {st : St} {p : Int32} {Φ : Int32 → Prop} : w_X1_isRow o st p Φ = Φ (ib (inB p.toInt64 0 ((sI st o 2) - 1).toInt64)) := by unfold w_X1_isRow; rw [pe_X0_in]; simp [ib_01]
theorem pe_X1_isColumn {o : Nat} {st : St} {p : Int32} {Φ : Int32 → Prop} : w_X1_isColumn o st p Φ = Φ (ib (inB p.toInt64 0 ((sI st o 3) - 1).toInt64)) := by unfold w_X1_isColumn; rw [pe_X0_in]; simp [ib_01]
theorem e_average {st : St} {p q r : Int32} {Φ : St → Int32 → Prop} (h : w_X0_average_b38 Φ st p q r (ib (inB p.toInt64 0 ((sI st 2 9) - 1).toInt64 && (inB q.toInt64 0 ((sI st 2 2) - 1).toInt64 && inB r.toInt64 0 ((sI st 2 3) - 1).toInt64)))) : w_X0_average st p q r Φ := by
  unfold w_X0_average w_X0_average_b37
  simp only [pe_X1_isPoint, pe_X1_isRow, pe_X1_isColumn, ib_z]
  revert h
  cases inB p.toInt64 0 ((sI st 2 9) - 1).toInt64 <;> cases inB q.toInt64 0 ((sI st 2 2) - 1).toInt64 <;> cases inB r.toInt64 0 ((sI st 2 3) - 1).toInt64 <;> simp [ib]
theorem o_average {b : Nat} {st : St} {p1 p2 p3 : Int32} {K E : St → Prop} (hI : Inv (b + 1) st) (hK : ∀ s, Inv b s → K s) : w_X0_average st p1 p2 p3 (fun s r => w_X4_average s p1 p2 p3 (fun s' r' => (r = r' → K s') ∧ (¬ r = r' → E s'))) := by
  obtain ⟨hN, hc1, hc2⟩ := Rm1 hI
  obtain ⟨K', G, M, N, q1, q2, q3, q4, q5, q6, q7, q8, q9, q10, q11, q12, q13, q14, q15, q16, q17, q18⟩ := hs_of hI
  have hp := pt15 q1 q2
  refine e_average ?_
  rw [q13, q11, q12, sub1_64 (by omega) (by omega), sub1_64 (by omega) (by omega), sub1_64 (by omega) (by omega)]
  unfold w_X0_average_b38
  refine s_must (fun hc => ?_) (fun hc => ⟨by omega, by omega, fun st1 f1 e1 => x_err (k := 1) (by decide) f1 (Nat.le_refl _) e1 hN (fun s2 f2 e2 => ?_)⟩)
  · obtain ⟨h1, h23⟩ := Bool.and_eq_true_iff.mp hc
    obtain ⟨h2, h3⟩ := Bool.and_eq_true_iff.mp h23
    obtain ⟨n, k1, rfl⟩ := inB_nat (m := ptN K' G - 1) (by omega) rfl h1
    obtain ⟨r, k2, rfl⟩ := inB_nat (m := M - 1) (by omega) rfl h2
    obtain ⟨c, k3, rfl⟩ := inB_nat (m := N - 1) (by omega) rfl h3
    refine s_X1_average (G := G) q1 q9 (fun k hk => q15 n k (by omega) hk) (by omega) (by omega) (by omega) ?_
    show w_X4_average st _ _ _ _
    unfold w_X4_average
    rw [pe_X4_isPoint q5 q6 q1 q2, ib_z, h1]
    refine ⟨fun h => (by cases h), fun _ => ?_⟩
    rw [pe_X4_isIn, ib_z, q7, sub1_64 (by omega) (by omega), h2]
    refine ⟨fun h => (by cases h), fun _ => ?_⟩
    rw [pe_X4_isIn, ib_nz, ib_z, q8, sub1_64 (by omega) (by omega), h3]
    refine ⟨fun _ => ?_, fun h => (by cases h)⟩
    refine s_X4_averageAt q1 q2 q5 q6 (by omega) (by omega) (by omega) ?_
    refine ⟨fun _ => hK _ (Inv_id hI), fun h => absurd (avS_cg K' (fun i hi => q16 i r c (by omega) (by omega) (by omega))) h⟩
  · show w_X4_average s2 p1 p2 p3 _
    unfold w_X4_average w_X4_average_b44
    have zz : ∀ j, sI s2 177 j = sI st 177 j := fun j => fr_I _ _ f2 hN 177 j (by omega) (fun h => by unfold wE at h; omega)
    have fin : ∀ {Φ : St → Int32 → Prop}, (∀ s3, Inv b s3 → Φ s3 ((-1000000000) - Int32.ofNat 1)) → w_X4_finds s2 1 Φ := fun {Φ} hΦ => m_err (k := 1) (by decide) (fun s3 f3 e3 => hΦ s3 (err_fin (by decide) hI f2 f3 e2 e3 (by omega) (by omega) wE_1 wE_2))
    rw [pe_X4_isPoint ((zz 0).trans q5) ((zz 1).trans q6) q1 q2, ib_z]
    refine ⟨fun _ => fin (fun s3 h3 => ⟨fun _ => hK _ h3, fun h => absurd rfl h⟩), fun g1 => ?_⟩
    rw [pe_X4_isIn, ib_z, zz, q7, sub1_64 (by omega) (by omega)]
    refine ⟨fun _ => fin (fun s3 h3 => ⟨fun _ => hK _ h3, fun h => absurd rfl h⟩), fun g2 => ?_⟩
    rw [pe_X4_isIn, ib_nz, ib_z, zz, q8, sub1_64 (by omega) (by omega)]
    refine ⟨fun g3 => ?_, fun _ => fin (fun s3 h3 => ⟨fun _ => hK _ h3, fun h => absurd rfl h⟩)⟩
    rcases b_or hc with h | h
    · exact absurd h g1
    · rcases b_or h with h | h
      · exact absurd h g2
      · rw [h] at g3; cases g3
