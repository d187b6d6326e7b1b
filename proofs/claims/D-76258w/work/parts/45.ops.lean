/-! PLAIN LAW, 6: seed, told, look, cell, size -/
set_option maxRecDepth 100000
theorem Rm1 {b : Nat} {st : St} (hI : Inv (b + 1) st) : 201 ≤ sN st ∧ sN st + 49990 ≤ gCAP ∧ sS st + 228000 ≤ gCAPS := by
  obtain ⟨h1, h2, h3⟩ := hI.1
  omega
theorem inB_nat1 {p : Int32} {b : Int64} {l m : Nat} (hl : l < 2 ^ 31) (hm : m < 2 ^ 31) (hb : b = Int64.ofInt m) {a : Int64} (ha : a = Int64.ofInt l) (h : inB p.toInt64 a b = true) : ∃ n, l ≤ n ∧ n ≤ m ∧ p = Int32.ofNat n := by
  rw [hb, ha, inB_i (by omega) (by omega) (by omega) (by omega)] at h
  have h := of_decide_eq_true h
  obtain ⟨n, e1, e2, e3⟩ := of_ti (p := p) (by omega)
  exact ⟨n, by omega, by omega, e1⟩
theorem b_or {c d : Bool} (h : (c && d) = false) : c = false ∨ d = false := by cases c <;> simp_all
theorem o_seed {b : Nat} {st : St} {k : Int32} {K E : St → Prop} (hI : Inv (b + 1) st) (hK : ∀ s, Inv b s → K s) : w_X0_seed st k (fun s r => w_X4_seed s k (fun s' r' => (r = r' → K s') ∧ (¬ r = r' → E s'))) := by
  obtain ⟨hN, hc1, hc2⟩ := Rm1 hI
  unfold w_X0_seed w_X4_seed
  rintro _ rfl _ rfl _ rfl _ rfl
  have e : sI st 0 6 = sI (putI st 0 6 k) 177 96 := hI.2.2.2.2.2.1
  refine ⟨fun _ => hK _ ?_, fun h => absurd e h⟩
  have hF : Fr (fun a j => (a = 0 ∧ j = 6) ∨ (a = 177 ∧ j = 96)) 0 0 st (putI (putI st 0 6 k) 177 96 k) := Fr_I (Fr_I Fr_rf (Or.inl (Or.inl ⟨rfl, rfl⟩))) (Or.inl (Or.inr ⟨rfl, rfl⟩))
  obtain ⟨r1, r2, r3, r4, r5, r6, r7, r8, r9, r10, r11⟩ := Inv_fr hI hF (by omega) (by omega) (fun a j h hw => by first | omega | (dsimp only at hw; omega))
  refine ⟨r1, r2, r3 (fun a j h hw => by unfold REr at h; first | omega | (dsimp only at hw; omega)), r4 (fun a j h hw => by unfold RHr at h; first | omega | (dsimp only at hw; omega)), r5 (fun a j h hw => by unfold RIm at h; first | omega | (dsimp only at hw; omega)), ?_, r7 (fun a j h hw => by unfold RPy at h; first | omega | (dsimp only at hw; omega)), r8 (fun a j h hw => by unfold RTp at h; first | omega | (dsimp only at hw; omega)), r9 (fun a j h hw => by unfold RLi at h; first | omega | (dsimp only at hw; omega)), r10 (fun a j h hw => by unfold RSx at h; first | omega | (dsimp only at hw; omega)), r11 (fun a j h hw => by unfold RNt at h; first | omega | (dsimp only at hw; omega))⟩
  unfold Zz
  rw [gI_pI, if_neg (by omega), gI_pI, if_pos ⟨rfl, rfl⟩, gI_pI, if_pos ⟨rfl, rfl⟩]
theorem o_told {b : Nat} {st : St} {k : Int32} {K E : St → Prop} (hI : Inv (b + 1) st) (hK : ∀ s, Inv b s → K s) : w_X0_told st k (fun s r => w_X4_told s k (fun s' r' => (r = r' → K s') ∧ (¬ r = r' → E s'))) := by
  obtain ⟨hN, hc1, hc2⟩ := Rm1 hI
  unfold w_X0_told
  rw [pe_X0_in]
  refine s_must (fun hc => ?_) (fun hc => ⟨by omega, by omega, fun st1 f1 e1 => x_err (k := 1) (by decide) f1 (Nat.le_refl _) e1 hN (fun s2 f2 e2 => ?_)⟩)
  · obtain ⟨n, g1, g2, rfl⟩ := inB_nat1 (l := 1) (m := 8) (by omega) (by omega) rfl rfl hc
    rw [vp_of (by omega), nn_of (by omega)]
    refine ⟨by omega, ?_⟩
    show w_X4_told st (Int32.ofNat n) _
    unfold w_X4_told
    rw [pe_X4_isIn, ib_z, hc]
    refine ⟨fun h => (by cases h), fun _ => ?_⟩
    rw [vp_of (by omega), nn_of (by omega)]
    have e := hI.2.2.1 n (by omega)
    refine ⟨by omega, fun _ => hK _ ?_, fun h => absurd e h⟩
    have hF : Fr (fun _ _ => False) 0 0 st st := Fr_rf
    obtain ⟨r1, r2, r3, r4, r5, r6, r7, r8, r9, r10, r11⟩ := Inv_fr hI hF (by omega) (by omega) (fun a j h hw => by first | omega | (dsimp only at hw; omega))
    refine ⟨r1, r2, r3 (fun a j h hw => by unfold REr at h; first | omega | (dsimp only at hw; omega)), r4 (fun a j h hw => by unfold RHr at h; first | omega | (dsimp only at hw; omega)), r5 (fun a j h hw => by unfold RIm at h; first | omega | (dsimp only at hw; omega)), r6 (fun a j h hw => by unfold RZz at h; first | omega | (dsimp only at hw; omega)), r7 (fun a j h hw => by unfold RPy at h; first | omega | (dsimp only at hw; omega)), r8 (fun a j h hw => by unfold RTp at h; first | omega | (dsimp only at hw; omega)), r9 (fun a j h hw => by unfold RLi at h; first | omega | (dsimp only at hw; omega)), r10 (fun a j h hw => by unfold RSx at h; first | omega | (dsimp only at hw; omega)), r11 (fun a j h hw => by unfold RNt at h; first | omega | (dsimp only at hw; omega))⟩
  · show w_X4_told s2 k _
    unfold w_X4_told
    rw [pe_X4_isIn, ib_z, hc]
    refine ⟨fun _ => ?_, fun h => absurd rfl h⟩
    exact m_err (k := 1) (by decide) (fun s3 f3 e3 => ⟨fun _ => hK _ (err_fin (by decide) hI f2 f3 e2 e3 (by omega) (by omega) wE_1 wE_2), fun h => absurd rfl h⟩)
theorem pe_X4_isCell {p q r : Int32} {Φ : Int32 → Prop} : w_X4_isCell p q r Φ = Φ (ib (inB p.toInt64 0 2 && (inB q.toInt64 0 2 && inB r.toInt64 0 2))) := by
  unfold w_X4_isCell
  simp only [pe_X4_isIn, ib_z]
  cases inB p.toInt64 0 2 <;> cases inB q.toInt64 0 2 <;> cases inB r.toInt64 0 2 <;> simp [ib]
theorem place_of {g r c : Nat} (hg : g < 3) (hr : r < 3) (hc : c < 3) : 4 + 9 * Int32.ofNat g + 3 * Int32.ofNat r + Int32.ofNat c = Int32.ofNat (4 + 9 * g + 3 * r + c) := by
  simp only [Int32.ofNat_add, Int32.ofNat_mul]; rfl
theorem pe_X4_place {g r c : Nat} (hg : g < 3) (hr : r < 3) (hc : c < 3) {Φ : Int32 → Prop} : w_X4_place (Int32.ofNat g) (Int32.ofNat r) (Int32.ofNat c) Φ = Φ (Int32.ofNat (4 + 9 * g + 3 * r + c)) := by
  unfold w_X4_place; rw [place_of hg hr hc]
theorem e_look {st : St} {p q r : Int32} {Φ : St → Int32 → Prop} (h : w_X0_look_b26 Φ st p q r (ib (inB p.toInt64 0 2 && (inB q.toInt64 0 2 && inB r.toInt64 0 2)))) : w_X0_look st p q r Φ := by
  unfold w_X0_look w_X0_look_b25
  simp only [pe_X0_isPlace, ib_z]
  revert h
  cases inB p.toInt64 0 2 <;> cases inB q.toInt64 0 2 <;> cases inB r.toInt64 0 2 <;> simp [ib]
theorem e_cell {st : St} {p q r v : Int32} {Φ : St → Int32 → Prop} (h : w_X0_cell_b41 Φ st p q r v (ib ((inB p.toInt64 0 2 && (inB q.toInt64 0 2 && inB r.toInt64 0 2)) && inB v.toInt64 (-20) 20))) : w_X0_cell st p q r v Φ := by
  unfold w_X0_cell w_X0_cell_b40
  simp only [pe_X0_isPlace, pe_X0_in, ib_z]
  revert h
  cases inB p.toInt64 0 2 <;> cases inB q.toInt64 0 2 <;> cases inB r.toInt64 0 2 <;> cases inB v.toInt64 (-20) 20 <;> simp [ib]
theorem o_look {b : Nat} {st : St} {p1 p2 p3 : Int32} {K E : St → Prop} (hI : Inv (b + 1) st) (hK : ∀ s, Inv b s → K s) : w_X0_look st p1 p2 p3 (fun s r => w_X4_look s p1 p2 p3 (fun s' r' => (r = r' → K s') ∧ (¬ r = r' → E s'))) := by
  obtain ⟨hN, hc1, hc2⟩ := Rm1 hI
  refine e_look ?_
  unfold w_X0_look_b26
  refine s_must (fun hc => ?_) (fun hc => ⟨by omega, by omega, fun st1 f1 e1 => x_err (k := 1) (by decide) f1 (Nat.le_refl _) e1 hN (fun s2 f2 e2 => ?_)⟩)
  · obtain ⟨h1, h2⟩ := Bool.and_eq_true_iff.mp hc
    obtain ⟨h2, h3⟩ := Bool.and_eq_true_iff.mp h2
    obtain ⟨g, k1, rfl⟩ := inB_nat (m := 2) (by omega) rfl h1
    obtain ⟨r, k2, rfl⟩ := inB_nat (m := 2) (by omega) rfl h2
    obtain ⟨c, k3, rfl⟩ := inB_nat (m := 2) (by omega) rfl h3
    rw [vp_of (by omega), vp_of (by omega), vp_of (by omega), nn_of (by omega), nn_of (by omega), nn_of (by omega)]
    refine ⟨by omega, by omega, by omega, ?_⟩
    show w_X4_look st _ _ _ _
    unfold w_X4_look
    rw [pe_X4_isCell, hc, ib_z]
    refine ⟨fun h => (by cases h), fun _ => ?_⟩
    rw [pe_X4_place (by omega) (by omega) (by omega), vp_of (by omega), nn_of (by omega)]
    obtain ⟨K1, G1, M1, N1, hRg, hHc, hGv, hTr⟩ := hI.2.2.2.1
    have e := hHc.2.2.1 g r c (by omega) (by omega) (by omega)
    refine ⟨by omega, fun _ => hK _ ?_, fun h => absurd e h⟩
    have hF : Fr (fun _ _ => False) 0 0 st st := Fr_rf
    obtain ⟨r1, r2, r3, r4, r5, r6, r7, r8, r9, r10, r11⟩ := Inv_fr hI hF (by omega) (by omega) (fun a j h hw => by first | omega | (dsimp only at hw; omega))
    refine ⟨r1, r2, r3 (fun a j h hw => by unfold REr at h; first | omega | (dsimp only at hw; omega)), r4 (fun a j h hw => by unfold RHr at h; first | omega | (dsimp only at hw; omega)), r5 (fun a j h hw => by unfold RIm at h; first | omega | (dsimp only at hw; omega)), r6 (fun a j h hw => by unfold RZz at h; first | omega | (dsimp only at hw; omega)), r7 (fun a j h hw => by unfold RPy at h; first | omega | (dsimp only at hw; omega)), r8 (fun a j h hw => by unfold RTp at h; first | omega | (dsimp only at hw; omega)), r9 (fun a j h hw => by unfold RLi at h; first | omega | (dsimp only at hw; omega)), r10 (fun a j h hw => by unfold RSx at h; first | omega | (dsimp only at hw; omega)), r11 (fun a j h hw => by unfold RNt at h; first | omega | (dsimp only at hw; omega))⟩
  · show w_X4_look s2 p1 p2 p3 _
    unfold w_X4_look
    rw [pe_X4_isCell, hc, ib_z]
    refine ⟨fun _ => ?_, fun h => absurd rfl h⟩
    exact m_err (k := 1) (by decide) (fun s3 f3 e3 => ⟨fun _ => hK _ (err_fin (by decide) hI f2 f3 e2 e3 (by omega) (by omega) wE_1 wE_2), fun h => absurd rfl h⟩)
/-- one slot of the house and its twin are written -/
theorem Hr_pair {st : St} {b o j0 c : Nat} {v : Int32} (hI : Inv (b + 1) st) (hj : 4 ≤ j0 ∧ j0 < 35) (hoc : (o = 2 ∧ c = 4 ∧ j0 = 31) ∨ (o = 16 ∧ c < 3 ∧ j0 = 32 + c) ∨ ∃ g r, g < 3 ∧ r < 3 ∧ c < 3 ∧ o = 2 + (3 + 4 * g + r) ∧ j0 = 4 + 9 * g + 3 * r + c) (hv1 : j0 < 31 → (-20) ≤ v ∧ v ≤ 20) (hv2 : 32 ≤ j0 → (-99) ≤ v ∧ v ≤ 99) (hv3 : j0 = 31 → ∀ K G, sI st 177 0 = Int32.ofNat K → sI st 177 1 = Int32.ofNat G → (K = 2 ∨ K = 3) → (1 ≤ G ∧ G ≤ 4) → ∃ p, p < ptN K G ∧ v = Int32.ofNat p) : Inv b (putI (putI st o c v) 177 j0 v) := by
  have hF : Fr (fun a j => (a = o ∧ j = c) ∨ (a = 177 ∧ j = j0)) 0 0 st (putI (putI st o c v) 177 j0 v) := Fr_I (Fr_I Fr_rf (Or.inl (Or.inl ⟨rfl, rfl⟩))) (Or.inl (Or.inr ⟨rfl, rfl⟩))
  have hN := hI.1.1
  have ho : 2 ≤ o ∧ o ≤ 16 := by
    rcases hoc with h | h | ⟨g, r, h⟩ <;> omega
  have h4 : o = 2 → c = 4 := fun h => by
    rcases hoc with h2 | h2 | ⟨g, r, h2⟩ <;> omega
  obtain ⟨K, G, M, N, ⟨q1, q2, q3, q4, q5, q6, q7, q8, ⟨p, q9, q10⟩, q11, q12⟩, ⟨c1, c2, c3, c4⟩, hGv, hTr⟩ := hI.2.2.2.1
  have em : ∀ j, sI (putI (putI st o c v) 177 j0 v) 177 j = if j = j0 then v else sI st 177 j := fun j => by
    rw [gI_pI, gI_pI]
    by_cases e : j = j0
    · rw [if_pos ⟨rfl, e⟩, if_pos e]
    · rw [if_neg (fun h => e h.2), if_neg e, if_neg (by omega)]
  have ex : ∀ a j, a ≤ 32 → sI (putI (putI st o c v) 177 j0 v) a j = if a = o ∧ j = c then v else sI st a j := fun a j ha => by
    rw [gI_pI, gI_pI, if_neg (by omega)]
  obtain ⟨r1, r2, r3, r4, r5, r6, r7, r8, r9, r10, r11⟩ := Inv_fr hI hF (by omega) (by omega) (fun a j h hw => by first | omega | (dsimp only at hw; omega))
  refine ⟨r1, r2, r3 (fun a j h hw => by unfold REr at h; first | omega | (dsimp only at hw; omega)), ⟨K, G, M, N, ⟨q1, q2, q3, q4, ?_, ?_, ?_, ?_, ?_, fun j u1 u2 => ?_, fun j u1 u2 => ?_⟩, ⟨fun j u1 => ?_, ?_, fun g r c9 u1 u2 u3 => ?_, fun k u1 => ?_⟩, Gv_fr hF hN (by omega) (pt15 q1 q2).1 (fun a j h hw => by first | omega | (dsimp only at hw; omega)) hGv, Tr_fr hF (by omega) (by omega) (fun a j h hw => by first | omega | (dsimp only at hw; omega)) hTr⟩, r5 (fun a j h hw => by unfold RIm at h; first | omega | (dsimp only at hw; omega)), r6 (fun a j h hw => by unfold RZz at h; first | omega | (dsimp only at hw; omega)), r7 (fun a j h hw => by unfold RPy at h; first | omega | (dsimp only at hw; omega)), r8 (fun a j h hw => by unfold RTp at h; first | omega | (dsimp only at hw; omega)), r9 (fun a j h hw => by unfold RLi at h; first | omega | (dsimp only at hw; omega)), r10 (fun a j h hw => by unfold RSx at h; first | omega | (dsimp only at hw; omega)), r11 (fun a j h hw => by unfold RNt at h; first | omega | (dsimp only at hw; omega))⟩
  · rw [em, if_neg (by omega)]; exact q5
  · rw [em, if_neg (by omega)]; exact q6
  · rw [em, if_neg (by omega)]; exact q7
  · rw [em, if_neg (by omega)]; exact q8
  · rw [em]
    by_cases e : 31 = j0
    · rw [if_pos e]; exact hv3 e.symm K G q5 q6 q1 q2
    · rw [if_neg e]; exact ⟨p, q9, q10⟩
  · rw [em]
    by_cases e : j = j0
    · rw [if_pos e]; exact hv1 (by omega)
    · rw [if_neg e]; exact q11 j u1 u2
  · rw [em]
    by_cases e : j = j0
    · rw [if_pos e]; exact hv2 (by omega)
    · rw [if_neg e]; exact q12 j u1 u2
  · rw [em, ex _ _ (by omega), if_neg (by omega), if_neg (by omega)]; exact c1 j u1
  · rw [em, ex _ _ (by omega)]
    by_cases e : 31 = j0
    · rw [if_pos e, if_pos (by rcases hoc with h | h | ⟨g, r, h⟩ <;> omega)]
    · rw [if_neg e, if_neg (by rcases hoc with h | h | ⟨g, r, h⟩ <;> omega)]; exact c2
  · rw [em, ex _ _ (by omega)]
    by_cases e : 4 + 9 * g + 3 * r + c9 = j0
    · rw [if_pos e, if_pos (by rcases hoc with h | h | ⟨g, r, h⟩ <;> omega)]
    · rw [if_neg e, if_neg (by rcases hoc with h | h | ⟨g, r, h⟩ <;> omega)]; exact c3 g r c9 u1 u2 u3
  · rw [em, ex _ _ (by omega)]
    by_cases e : 32 + k = j0
    · rw [if_pos e, if_pos (by rcases hoc with h | h | ⟨g, r, h⟩ <;> omega)]
    · rw [if_neg e, if_neg (by rcases hoc with h | h | ⟨g, r, h⟩ <;> omega)]; exact c4 k u1

theorem fr_I (st st' : St) {W : Nat → Nat → Prop} {x y : Nat} (hF : Fr W x y st st') (hN : 201 ≤ sN st) (a j : Nat) (ha : a < 201) (hw : ¬ W a j) : sI st' a j = sI st a j := (fr_at hF (Or.inl (by omega)) hw).1
theorem pe_X4_isState {st : St} {p : Int32} {Φ : Int32 → Prop} {K : Nat} (h : sI st 177 0 = Int32.ofNat K) (h1 : K = 2 ∨ K = 3) : w_X4_isState st p Φ = Φ (ib (inB p.toInt64 0 (Int64.ofInt ((K - 1 : Nat) : Int)))) := by
  unfold w_X4_isState
  rw [h]
  exact lt0_le (by omega) (by omega)
theorem pe_X4_points {st : St} {Φ : Int32 → Prop} {K G : Nat} (hk : sI st 177 0 = Int32.ofNat K) (hg : sI st 177 1 = Int32.ofNat G) (h1 : K = 2 ∨ K = 3) (h2 : 1 ≤ G ∧ G ≤ 4) : w_X4_points st Φ = Φ (Int32.ofNat (ptN K G)) := by
  unfold w_X4_points
  rw [hk, hg]
  rcases h1 with rfl | rfl <;> rcases (by omega : G = 1 ∨ G = 2 ∨ G = 3 ∨ G = 4) with rfl | rfl | rfl | rfl
  · have e : Int32.ofNat 1 + 1 = Int32.ofNat (ptN 2 1) := by decide
    rw [e]; simp
  · have e : Int32.ofNat 2 + 1 = Int32.ofNat (ptN 2 2) := by decide
    rw [e]; simp
  · have e : Int32.ofNat 3 + 1 = Int32.ofNat (ptN 2 3) := by decide
    rw [e]; simp
  · have e : Int32.ofNat 4 + 1 = Int32.ofNat (ptN 2 4) := by decide
    rw [e]; simp
  · have e : (Int32.ofNat 1 + 1) * (Int32.ofNat 1 + 2) / 2 = Int32.ofNat (ptN 3 1) := by decide
    have e0 : Int32.ofNat 3 ≠ 2 := by decide
    rw [e]; simp [e0]
  · have e : (Int32.ofNat 2 + 1) * (Int32.ofNat 2 + 2) / 2 = Int32.ofNat (ptN 3 2) := by decide
    have e0 : Int32.ofNat 3 ≠ 2 := by decide
    rw [e]; simp [e0]
  · have e : (Int32.ofNat 3 + 1) * (Int32.ofNat 3 + 2) / 2 = Int32.ofNat (ptN 3 3) := by decide
    have e0 : Int32.ofNat 3 ≠ 2 := by decide
    rw [e]; simp [e0]
  · have e : (Int32.ofNat 4 + 1) * (Int32.ofNat 4 + 2) / 2 = Int32.ofNat (ptN 3 4) := by decide
    have e0 : Int32.ofNat 3 ≠ 2 := by decide
    rw [e]; simp [e0]
theorem pe_X4_isPoint {st : St} {p : Int32} {Φ : Int32 → Prop} {K G : Nat} (hk : sI st 177 0 = Int32.ofNat K) (hg : sI st 177 1 = Int32.ofNat G) (h1 : K = 2 ∨ K = 3) (h2 : 1 ≤ G ∧ G ≤ 4) : w_X4_isPoint st p Φ = Φ (ib (inB p.toInt64 0 (Int64.ofInt ((ptN K G - 1 : Nat) : Int)))) := by
  unfold w_X4_isPoint
  have hp := pt15 h1 h2
  simp only [pe_X4_points hk hg h1 h2]
  exact lt0_le (by omega) (by omega)
/-- sizes of the house, told once -/
theorem hs_of {b : Nat} {st : St} (hI : Inv (b + 1) st) : ∃ K G M N, (K = 2 ∨ K = 3) ∧ (1 ≤ G ∧ G ≤ 4) ∧ (1 ≤ M ∧ M ≤ 3) ∧ (1 ≤ N ∧ N ≤ 3) ∧ sI st 177 0 = Int32.ofNat K ∧ sI st 177 1 = Int32.ofNat G ∧ sI st 177 2 = Int32.ofNat M ∧ sI st 177 3 = Int32.ofNat N ∧ sI st 2 0 = Int32.ofNat K ∧ sI st 2 1 = Int32.ofNat G ∧ sI st 2 2 = Int32.ofNat M ∧ sI st 2 3 = Int32.ofNat N ∧ sI st 2 9 = Int32.ofNat (ptN K G) ∧ sI st 2 4 = sI st 177 31 ∧ (∀ p k, p < ptN K G → k < 3 → sI st (2 + (16 + p)) k = Int32.ofNat (ptV K G p k)) ∧ (∀ g r c, g < 3 → r < 3 → c < 3 → sI st (2 + (3 + 4 * g + r)) c = sI st 177 (4 + 9 * g + 3 * r + c)) ∧ (∀ k, k < 3 → sI st (2 + 14) k = sI st 177 (32 + k)) ∧ ∃ p, p < ptN K G ∧ sI st 177 31 = Int32.ofNat p := by
  obtain ⟨K, G, M, N, ⟨q1, q2, q3, q4, q5, q6, q7, q8, q9, -, -⟩, ⟨c1, c2, c3, c4⟩, hGv, hTr⟩ := hI.2.2.2.1
  exact ⟨K, G, M, N, q1, q2, q3, q4, q5, q6, q7, q8, (c1 0 (by omega)).trans q5, (c1 1 (by omega)).trans q6, (c1 2 (by omega)).trans q7, (c1 3 (by omega)).trans q8, hGv.1, c2, hGv.2, c3, c4, q9⟩
theorem i32_lo {v : Int32} {a b : Int64} (l h : Int) (hl : -(2 ^ 31) ≤ l ∧ l < 2 ^ 31) (hh : -(2 ^ 31) ≤ h ∧ h < 2 ^ 31) (ha : a = Int64.ofInt l) (hb : b = Int64.ofInt h) (g : inB v.toInt64 a b = true) : l ≤ v.toInt ∧ v.toInt ≤ h := by
  rw [ha, hb, inB_i (by omega) (by omega) (by omega) (by omega)] at g
  exact of_decide_eq_true g
theorem o_cell {b : Nat} {st : St} {p1 p2 p3 p4 : Int32} {K E : St → Prop} (hI : Inv (b + 1) st) (hK : ∀ s, Inv b s → K s) : w_X0_cell st p1 p2 p3 p4 (fun s r => w_X4_cell s p1 p2 p3 p4 (fun s' r' => (r = r' → K s') ∧ (¬ r = r' → E s'))) := by
  obtain ⟨hN, hc1, hc2⟩ := Rm1 hI
  refine e_cell ?_
  unfold w_X0_cell_b41
  refine s_must (fun hc => ?_) (fun hc => ⟨by omega, by omega, fun st1 f1 e1 => x_err (k := 1) (by decide) f1 (Nat.le_refl _) e1 hN (fun s2 f2 e2 => ?_)⟩)
  · obtain ⟨hc, hv⟩ := Bool.and_eq_true_iff.mp hc
    obtain ⟨h1, h2⟩ := Bool.and_eq_true_iff.mp hc
    obtain ⟨h2, h3⟩ := Bool.and_eq_true_iff.mp h2
    obtain ⟨g, k1, rfl⟩ := inB_nat (m := 2) (by omega) rfl h1
    obtain ⟨r, k2, rfl⟩ := inB_nat (m := 2) (by omega) rfl h2
    obtain ⟨c, k3, rfl⟩ := inB_nat (m := 2) (by omega) rfl h3
    have hb := i32_lo (-20) 20 (by omega) (by omega) (by decide) (by decide) hv
    rw [vp_of (by omega), vp_of (by omega), vp_of (by omega), nn_of (by omega), nn_of (by omega), nn_of (by omega)]
    refine ⟨by omega, by omega, by omega, ?_⟩
    rintro _ rfl _ rfl
    show w_X4_cell _ _ _ _ _ _
    unfold w_X4_cell
    rw [pe_X4_isCell, hc, ib_z]
    refine ⟨fun h => (by cases h), fun _ => ?_⟩
    rw [pe_X4_isIn, ib_nz, ib_z, hv]
    refine ⟨fun _ => ?_, fun h => (by cases h)⟩
    simp only [pe_X4_place (show g < 3 by omega) (show r < 3 by omega) (show c < 3 by omega), vp_of (show 4 + 9 * g + 3 * r + c < 2 ^ 31 by omega), nn_of (show 4 + 9 * g + 3 * r + c < 2 ^ 31 by omega)]
    refine ⟨by omega, ?_⟩
    rintro _ rfl
    refine ⟨by omega, ?_⟩
    rintro _ rfl
    obtain ⟨K, G, M, N, q1, q2, q3, q4, q5, q6, q7, q8, q9, q10, q11, q12, q13, q14, q15, q16, q17, q18⟩ := hs_of hI
    refine ⟨fun _ => hK _ (Hr_pair hI (by omega) (Or.inr (Or.inr ⟨g, r, by omega, by omega, by omega, rfl, rfl⟩)) (fun _ => ⟨?_, ?_⟩) (fun h => by omega) (fun h => by omega)), fun h => absurd ?_ h⟩
    · rw [Int32.le_iff_toInt_le]; exact hb.1
    · rw [Int32.le_iff_toInt_le]; exact hb.2
    · rw [gI_pI, if_neg (by omega)]; exact q16 g r c (by omega) (by omega) (by omega)
  · show w_X4_cell s2 p1 p2 p3 p4 _
    unfold w_X4_cell w_X4_cell_b24
    rw [pe_X4_isCell, ib_z]
    refine ⟨fun _ => ?_, fun hp => ?_⟩
    · exact m_err (k := 1) (by decide) (fun s3 f3 e3 => ⟨fun _ => hK _ (err_fin (by decide) hI f2 f3 e2 e3 (by omega) (by omega) wE_1 wE_2), fun h => absurd rfl h⟩)
    · rw [pe_X4_isIn, ib_nz, ib_z]
      rcases b_or hc with h | h
      · exact absurd h hp
      · rw [h]
        refine ⟨fun h => (by cases h), fun _ => ?_⟩
        exact m_err (k := 1) (by decide) (fun s3 f3 e3 => ⟨fun _ => hK _ (err_fin (by decide) hI f2 f3 e2 e3 (by omega) (by omega) wE_1 wE_2), fun h => absurd rfl h⟩)
theorem o_prior {b : Nat} {st : St} {p1 : Int32} {K E : St → Prop} (hI : Inv (b + 1) st) (hK : ∀ s, Inv b s → K s) : w_X0_prior st p1 (fun s r => w_X4_prior s p1 (fun s' r' => (r = r' → K s') ∧ (¬ r = r' → E s'))) := by
  obtain ⟨hN, hc1, hc2⟩ := Rm1 hI
  obtain ⟨K, G, M, N, q1, q2, q3, q4, q5, q6, q7, q8, q9, q10, q11, q12, q13, q14, q15, q16, q17, q18⟩ := hs_of hI
  have hp := pt15 q1 q2
  unfold w_X0_prior
  rw [pe_X1_isPoint, q13, sub1_64 (by omega) (by omega)]
  refine s_must (fun hc => ?_) (fun hc => ⟨by omega, by omega, fun st1 f1 e1 => x_err (k := 1) (by decide) f1 (Nat.le_refl _) e1 hN (fun s2 f2 e2 => ?_)⟩)
  · obtain ⟨n, k1, rfl⟩ := inB_nat (m := ptN K G - 1) (by omega) rfl hc
    rintro _ rfl _ rfl
    show w_X4_prior _ _ _
    unfold w_X4_prior
    rw [pe_X4_isPoint (K := K) (G := G) (by rw [gI_pI, if_neg (by omega)]; exact q5) (by rw [gI_pI, if_neg (by omega)]; exact q6) q1 q2, ib_nz, ib_z, hc]
    refine ⟨fun _ => ?_, fun h => (by cases h)⟩
    rintro _ rfl _ rfl
    refine ⟨fun _ => hK _ (Hr_pair hI (by omega) (Or.inl ⟨rfl, rfl, rfl⟩) (fun h => by omega) (fun h => by omega) (fun _ K2 G2 u1 u2 u3 u4 => ?_)), fun h => absurd ?_ h⟩
    · have eK : K2 = K := by
        have := congrArg Int32.toNatClampNeg (u1.symm.trans q5)
        rwa [nn_of (by omega), nn_of (by omega)] at this
      have eG : G2 = G := by
        have := congrArg Int32.toNatClampNeg (u2.symm.trans q6)
        rwa [nn_of (by omega), nn_of (by omega)] at this
      subst eK eG
      exact ⟨n, by omega, rfl⟩
    · rw [gI_pI, if_neg (by omega)]; exact q14
  · show w_X4_prior s2 p1 _
    unfold w_X4_prior
    rw [pe_X4_isPoint (K := K) (G := G) ((fr_I _ _ f2 hN 177 0 (by omega) (fun h => by unfold wE at h; omega)).trans q5) ((fr_I _ _ f2 hN 177 1 (by omega) (fun h => by unfold wE at h; omega)).trans q6) q1 q2, ib_nz, ib_z, hc]
    refine ⟨fun h => (by cases h), fun _ => ?_⟩
    exact m_err (k := 1) (by decide) (fun s3 f3 e3 => ⟨fun _ => hK _ (err_fin (by decide) hI f2 f3 e2 e3 (by omega) (by omega) wE_1 wE_2), fun h => absurd rfl h⟩)
