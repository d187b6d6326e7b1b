/-! PLAIN LAW, 10: what the reference's gives comes to; give -/
set_option maxRecDepth 100000
theorem sub_of {m n : Nat} (h : n ≤ m) (hm : m < 2 ^ 31) : Int32.ofNat m - Int32.ofNat n = Int32.ofNat (m - n) := by
  apply Int32.toInt_inj.mp
  rw [Int32.toInt_sub, ti_of hm, ti_of (by omega), ti_of (by omega), Int.bmod_eq_of_le (by omega) (by omega)]
  omega
def gvW (G : Nat) : Nat → Nat → Nat → Option (Nat × Nat)
  | 0, _, _ => none
  | m + 1, a, l => if l ≤ G - a then some (a, l) else if a + 1 ≤ G then gvW G m (a + 1) (l - (G - a + 1)) else none
theorem gv_loop {st0 : St} {G : Nat} {k : Int32} {Φ : Int32 → Prop} {E : St → Int32 → Int32 → Int32 → Prop} (hG : sI st0 177 1 = Int32.ofNat G) (hG4 : G ≤ 4) {a' l' : Nat} (h : E st0 k (Int32.ofNat a') (Int32.ofNat l')) : ∀ (m n a l : Nat), m < n → a ≤ G → l < 100 → gvW G m a l = some (a', l') → w_X4_gives_l32 Φ E n st0 k (Int32.ofNat a) (Int32.ofNat l)
  | 0, _, _, _, _, _, _, hw => by cases hw
  | m + 1, 0, _, _, hn, _, _, _ => absurd hn (by omega)
  | m + 1, n + 1, a, l, hn, ha, hl, hw => by
    rw [w_X4_gives_l32, hG, sub_of ha (by omega), le_of (by omega) (by omega)]
    unfold gvW at hw
    by_cases e : l ≤ G - a
    · rw [if_pos e] at hw
      cases hw
      exact ⟨fun _ => h, fun h2 => absurd e h2⟩
    · rw [if_neg e] at hw
      by_cases e2 : a + 1 ≤ G
      · rw [if_pos e2] at hw
        refine ⟨fun h2 => absurd h2 e, fun _ => ?_⟩
        rintro _ rfl
        rw [succ_of, succ_of, sub_of (by omega) (by omega)]
        exact gv_loop hG hG4 h m n (a + 1) _ (by omega) e2 (by omega) hw
      · rw [if_neg e2] at hw; cases hw
def gvB (G p : Nat) : Bool := match gvW G 9 0 p with
  | none => false
  | some q => decide (q.1 + q.2 ≤ G ∧ ptV 3 G p 0 = q.1 ∧ ptV 3 G p 1 = q.2 ∧ ptV 3 G p 2 = G - q.1 - q.2)
theorem gvB_ok : ∀ G, G < 5 → ∀ p, p < ptN 3 G → 1 ≤ G → gvB G p = true := by decide +kernel
theorem gvW_ok : ∀ G, G < 5 → 1 ≤ G → ∀ p, p < ptN 3 G → ∃ q, gvW G 9 0 p = some q ∧ q.1 + q.2 ≤ G ∧ ptV 3 G p 0 = q.1 ∧ ptV 3 G p 1 = q.2 ∧ ptV 3 G p 2 = G - q.1 - q.2 := by
  intro G h1 h2 p hp
  have h9 := gvB_ok G h1 p hp h2
  unfold gvB at h9
  cases hw : gvW G 9 0 p with
  | none => rw [hw] at h9; cases h9
  | some q => rw [hw] at h9; exact ⟨q, rfl, of_decide_eq_true h9⟩
theorem pt2 : ∀ G, G < 5 → 1 ≤ G → ∀ p, p < ptN 2 G → ptV 2 G p 0 = p ∧ ptV 2 G p 1 = G - p ∧ ptV 2 G p 2 = 0 ∧ p ≤ G := by
  intro G h1 h2
  rcases (by omega : G = 1 ∨ G = 2 ∨ G = 3 ∨ G = 4) with rfl | rfl | rfl | rfl
  · have e : ptN 2 1 = 2 := by decide
    rw [e]; intro p hp
    rcases (by omega : p = 0 ∨ p = 1) with rfl | rfl <;> decide
  · have e : ptN 2 2 = 3 := by decide
    rw [e]; intro p hp
    rcases (by omega : p = 0 ∨ p = 1 ∨ p = 2) with rfl | rfl | rfl <;> decide
  · have e : ptN 2 3 = 4 := by decide
    rw [e]; intro p hp
    rcases (by omega : p = 0 ∨ p = 1 ∨ p = 2 ∨ p = 3) with rfl | rfl | rfl | rfl <;> decide
  · have e : ptN 2 4 = 5 := by decide
    rw [e]; intro p hp
    rcases (by omega : p = 0 ∨ p = 1 ∨ p = 2 ∨ p = 3 ∨ p = 4) with rfl | rfl | rfl | rfl | rfl <;> decide
/-- what a point gives to a state: the reference works it out -/
theorem s_X4_gives {st0 : St} {K G p k : Nat} {Φ : Int32 → Prop} (hK : K = 2 ∨ K = 3) (hG : 1 ≤ G ∧ G ≤ 4) (h0 : sI st0 177 0 = Int32.ofNat K) (h1 : sI st0 177 1 = Int32.ofNat G) (hp : p < ptN K G) (hk : k < K) (h : Φ (Int32.ofNat (ptV K G p k))) : w_X4_gives st0 (Int32.ofNat p) (Int32.ofNat k) Φ := by
  have hp15 := pt15 hK hG
  unfold w_X4_gives
  rw [h0]
  rcases hK with rfl | rfl
  · obtain ⟨e0, e1, e2, e3⟩ := pt2 G (by omega) hG.1 p hp
    refine ⟨fun h => absurd rfl h, fun _ => ?_⟩
    rcases (by omega : k = 0 ∨ k = 1) with rfl | rfl
    · exact ⟨fun h => absurd rfl h, fun _ => by rw [e0] at h; exact h⟩
    · refine ⟨fun _ => ?_, fun h => absurd h (by decide)⟩
      rw [h1, sub_of e3 (by omega), ← e1]; exact h
  · obtain ⟨⟨a, l⟩, w1, w2, e0, e1, e2⟩ := gvW_ok G (by omega) hG.1 p hp
    refine ⟨fun _ => ?_, fun h => absurd h (by decide)⟩
    refine gv_loop (a' := a) (l' := l) h1 hG.2 ?_ 9 gFU 0 p (gFU_big (by omega)) (by omega) (by omega) w1
    unfold w_X4_gives_b66
    rcases (by omega : k = 0 ∨ k = 1 ∨ k = 2) with rfl | rfl | rfl
    · exact ⟨fun h => absurd rfl h, fun _ => by rw [e0] at h; exact h⟩
    · exact ⟨fun _ => ⟨fun h => absurd rfl h, fun _ => by rw [e1] at h; exact h⟩, fun h => absurd h (by decide)⟩
    · refine ⟨fun _ => ⟨fun _ => ?_, fun h => absurd h (by decide)⟩, fun h => absurd h (by decide)⟩
      rw [h1, sub_of (by simp only at w2; omega) (by omega), sub_of (by simp only at w2; omega) (by omega), ← e2]; exact h
theorem e_give {st : St} {p v : Int32} {Φ : St → Int32 → Prop} (h : w_X0_give_b27 Φ st p v (ib (inB p.toInt64 0 ((sI st 2 9) - 1).toInt64 && inB v.toInt64 0 ((sI st 2 0) - 1).toInt64))) : w_X0_give st p v Φ := by
  unfold w_X0_give w_X0_give_b26
  simp only [pe_X1_isPoint, pe_X1_isState, ib_z]
  revert h
  cases inB p.toInt64 0 ((sI st 2 9) - 1).toInt64 <;> cases inB v.toInt64 0 ((sI st 2 0) - 1).toInt64 <;> simp [ib]
theorem Inv_id {b : Nat} {st : St} (hI : Inv (b + 1) st) : Inv b st := by
  obtain ⟨h1, h2, h3, h4, h5, h6, h7, h8, h9, h10, h11⟩ := hI
  exact ⟨Rm_fr (W := fun _ _ => False) Fr_rf (by omega) (by omega) h1, h2, h3, h4, (by obtain ⟨k1, n, k2, k3⟩ := h5; exact ⟨k1, n, by omega, k3⟩), h6, h7, h8, h9, h10, h11⟩
theorem o_give {b : Nat} {st : St} {p1 p2 : Int32} {K E : St → Prop} (hI : Inv (b + 1) st) (hK : ∀ s, Inv b s → K s) : w_X0_give st p1 p2 (fun s r => w_X4_give s p1 p2 (fun s' r' => (r = r' → K s') ∧ (¬ r = r' → E s'))) := by
  obtain ⟨hN, hc1, hc2⟩ := Rm1 hI
  obtain ⟨K', G, M, N, q1, q2, q3, q4, q5, q6, q7, q8, q9, q10, q11, q12, q13, q14, q15, q16, q17, q18⟩ := hs_of hI
  have hp := pt15 q1 q2
  refine e_give ?_
  rw [q13, q9, sub1_64 (by omega) (by omega), sub1_64 (by omega) (by omega)]
  unfold w_X0_give_b27
  refine s_must (fun hc => ?_) (fun hc => ⟨by omega, by omega, fun st1 f1 e1 => x_err (k := 1) (by decide) f1 (Nat.le_refl _) e1 hN (fun s2 f2 e2 => ?_)⟩)
  · obtain ⟨h1, h2⟩ := Bool.and_eq_true_iff.mp hc
    obtain ⟨n, k1, rfl⟩ := inB_nat (m := ptN K' G - 1) (by omega) rfl h1
    obtain ⟨k, k2, rfl⟩ := inB_nat (m := K' - 1) (by omega) rfl h2
    rw [vp_of (by omega), vp_of (by omega), nn_of (by omega), nn_of (by omega)]
    refine ⟨by omega, by omega, ?_⟩
    show w_X4_give st _ _ _
    unfold w_X4_give
    rw [pe_X4_isPoint q5 q6 q1 q2, ib_z, h1]
    refine ⟨fun h => (by cases h), fun _ => ?_⟩
    rw [pe_X4_isState q5 q1, ib_z, h2]
    refine ⟨fun h => (by cases h), fun _ => ?_⟩
    refine s_X4_gives q1 q2 q5 q6 (by omega) (by omega) ?_
    exact ⟨fun _ => hK _ (Inv_id hI), fun h => absurd (q15 n k (by omega) (by omega)) h⟩
  · show w_X4_give s2 p1 p2 _
    unfold w_X4_give w_X4_give_b25
    have z0 := (fr_I _ _ f2 hN 177 0 (by omega) (fun h => by unfold wE at h; omega)).trans q5
    have z1 := (fr_I _ _ f2 hN 177 1 (by omega) (fun h => by unfold wE at h; omega)).trans q6
    rw [pe_X4_isPoint z0 z1 q1 q2, ib_z]
    refine ⟨fun _ => ?_, fun hp => ?_⟩
    · exact m_err (k := 1) (by decide) (fun s3 f3 e3 => ⟨fun _ => hK _ (err_fin (by decide) hI f2 f3 e2 e3 (by omega) (by omega) wE_1 wE_2), fun h => absurd rfl h⟩)
    · rw [pe_X4_isState z0 q1, ib_z]
      rcases b_or hc with h | h
      · exact absurd h hp
      · rw [h]
        refine ⟨fun _ => ?_, fun h => absurd rfl h⟩
        exact m_err (k := 1) (by decide) (fun s3 f3 e3 => ⟨fun _ => hK _ (err_fin (by decide) hI f2 f3 e2 e3 (by omega) (by omega) wE_1 wE_2), fun h => absurd rfl h⟩)
