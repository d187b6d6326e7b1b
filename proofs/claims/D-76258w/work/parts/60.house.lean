/-! PLAIN LAW, 21: points are laid; states, parts -/
set_option maxRecDepth 100000
def cntA (G : Nat) : Nat → Nat
  | 0 => 0
  | a + 1 => cntA G a + (G - a + 1)
def cntQ (G a b : Nat) : Bool := decide (1 ≤ G → a < G + 1 → b < G - a + 1 → cntA G a + b < ptN 3 G ∧ ptV 3 G (cntA G a + b) 0 = a ∧ ptV 3 G (cntA G a + b) 1 = b ∧ ptV 3 G (cntA G a + b) 2 = G - a - b)
theorem cntQ_ok : ∀ G, G < 5 → ∀ a, a < 6 → ∀ b, b < 6 → cntQ G a b = true := by decide +kernel
theorem cntQ_end : ∀ G, G < 5 → 1 ≤ G → cntA G (G + 1) = ptN 3 G := by decide +kernel
theorem cntB (G : Nat) (h : G < 5) (h1 : 1 ≤ G) : (∀ a, a < G + 1 → ∀ b, b < G - a + 1 → cntA G a + b < ptN 3 G ∧ ptV 3 G (cntA G a + b) 0 = a ∧ ptV 3 G (cntA G a + b) 1 = b ∧ ptV 3 G (cntA G a + b) 2 = G - a - b) ∧ cntA G (G + 1) = ptN 3 G :=
  ⟨fun a ha b hb => of_decide_eq_true (cntQ_ok G h a (by omega) b (by omega)) h1 ha hb, cntQ_end G h h1⟩
def cntR (G a : Nat) : Bool := decide (1 ≤ G → a < G + 1 → a < ptN 2 G ∧ ptV 2 G a 0 = a ∧ ptV 2 G a 1 = G - a ∧ ptV 2 G a 2 = 0)
theorem cntR_ok : ∀ G, G < 5 → ∀ a, a < 6 → cntR G a = true := by decide +kernel
theorem cntR_end : ∀ G, G < 5 → 1 ≤ G → G + 1 = ptN 2 G := by decide +kernel
theorem cntC (G : Nat) (h : G < 5) (h1 : 1 ≤ G) : (∀ a, a < G + 1 → a < ptN 2 G ∧ ptV 2 G a 0 = a ∧ ptV 2 G a 1 = G - a ∧ ptV 2 G a 2 = 0) ∧ G + 1 = ptN 2 G :=
  ⟨fun a ha => of_decide_eq_true (cntR_ok G h a (by omega)) h1 ha, cntR_end G h h1⟩
def wGv (o a j : Nat) : Prop := (a = o ∧ (j = 4 ∨ j = 7 ∨ j = 9)) ∨ (o + 16 ≤ a ∧ a ≤ o + 30 ∧ j < 3)
/-- so many points are laid -/
def Pq (o K G : Nat) (st0 : St) (m : Nat) (s : St) : Prop := Fr (wGv o) 0 0 st0 s ∧ sI s o 9 = Int32.ofNat m ∧ ∀ p k, p < m → k < 3 → sI s (o + (16 + p)) k = Int32.ofNat (ptV K G p k)
theorem s_point {o K G m : Nat} {st0 s : St} {a b c : Int32} {Φ : St → Prop} (hm : m < 15) (hP : Pq o K G st0 m s) (ha : a = Int32.ofNat (ptV K G m 0)) (hb : b = Int32.ofNat (ptV K G m 1)) (hc : c = Int32.ofNat (ptV K G m 2)) (h : ∀ s', Pq o K G st0 (m + 1) s' → Φ s') : w_X1_point o s a b c Φ := by
  obtain ⟨hF, h9, hv⟩ := hP
  unfold w_X1_point
  rw [h9, vp_of (by omega), nn_of (by omega)]
  refine ⟨hm, ?_⟩
  rintro _ rfl
  have e1 : sI (putI s (o + (16 + m)) 0 a) o 9 = Int32.ofNat m := by rw [gI_pI, if_neg (by omega)]; exact h9
  rw [e1, vp_of (by omega), nn_of (by omega)]
  refine ⟨hm, ?_⟩
  rintro _ rfl
  have e2 : sI (putI (putI s (o + (16 + m)) 0 a) (o + (16 + m)) 1 b) o 9 = Int32.ofNat m := by rw [gI_pI, if_neg (by omega)]; exact e1
  rw [e2, vp_of (by omega), nn_of (by omega)]
  refine ⟨hm, ?_⟩
  rintro _ rfl
  have e3 : sI (putI (putI (putI s (o + (16 + m)) 0 a) (o + (16 + m)) 1 b) (o + (16 + m)) 2 c) o 9 = Int32.ofNat m := by rw [gI_pI, if_neg (by omega)]; exact e2
  rw [e3, succ_of]
  rintro _ rfl
  refine h _ ⟨Fr_I (Fr_I (Fr_I (Fr_I hF (Or.inl (Or.inr ⟨by omega, by omega, by omega⟩))) (Or.inl (Or.inr ⟨by omega, by omega, by omega⟩))) (Or.inl (Or.inr ⟨by omega, by omega, by omega⟩))) (Or.inl (Or.inl ⟨rfl, by omega⟩)), by rw [gI_pI, if_pos ⟨rfl, rfl⟩], fun p k hp hk => ?_⟩
  rw [gI_pI, if_neg (by omega)]
  by_cases e : p = m
  · subst e
    rcases (by omega : k = 0 ∨ k = 1 ∨ k = 2) with rfl | rfl | rfl
    · rw [gI_pI, if_neg (by omega), gI_pI, if_neg (by omega), gI_pI, if_pos ⟨rfl, rfl⟩, ha]
    · rw [gI_pI, if_neg (by omega), gI_pI, if_pos ⟨rfl, rfl⟩, hb]
    · rw [gI_pI, if_pos ⟨rfl, rfl⟩, hc]
  · rw [gI_pI, if_neg (by omega), gI_pI, if_neg (by omega), gI_pI, if_neg (by omega)]
    exact hv p k (by omega) hk
theorem s_points {o K G : Nat} {st : St} {Φ : St → Prop} (hN : 201 ≤ sN st) (ho : o + 30 < 201) (hK : K = 2 ∨ K = 3) (hG : 1 ≤ G ∧ G ≤ 4) (h0 : sI st o 0 = Int32.ofNat K) (h1 : sI st o 1 = Int32.ofNat G) (h : ∀ s, Fr (wGv o) 0 0 st s → Gv o s K G → sI s o 4 = 0 → sR s o 7 = none → Φ s) : w_X1_laysPoints o st Φ := by
  have hp15 := pt15 hK hG
  unfold w_X1_laysPoints
  rintro _ rfl
  have f0 : Fr (wGv o) 0 0 st (putI st o 9 0) := Fr_I Fr_rf (Or.inl (Or.inl ⟨rfl, by omega⟩))
  have hend : ∀ s, Pq o K G st (ptN K G) s → w_X1_laysPoints_b81 o Φ s := fun s ⟨p1, p2, p3⟩ => by
    unfold w_X1_laysPoints_b81
    rintro _ rfl _ rfl
    refine h _ (Fr_R (Fr_I p1 (Or.inl (Or.inl ⟨rfl, by omega⟩))) (Or.inl (Or.inl ⟨rfl, by omega⟩))) ⟨by rw [gI_pR, gI_pI, if_neg (by omega)]; exact p2, fun p k hp hk => by rw [gI_pR, gI_pI, if_neg (by omega)]; exact p3 p k hp hk⟩ (by rw [gI_pR, gI_pI, if_pos ⟨rfl, rfl⟩]) (by rw [gR_pR, if_pos ⟨rfl, rfl⟩])
  have kk : ∀ {m s}, Pq o K G st m s → sI s o 0 = Int32.ofNat K ∧ sI s o 1 = Int32.ofNat G := fun {m s} ⟨p1, _, _⟩ => ⟨(fr_at p1 (Or.inl (by omega)) (by unfold wGv; omega)).1.trans h0, (fr_at p1 (Or.inl (by omega)) (by unfold wGv; omega)).1.trans h1⟩
  refine loop_up (α := St × Int32) (L := fun n a => w_X1_laysPoints_l7 o Φ (fun (s24 : St) => w_X1_laysPoints_b81 o Φ s24) n a.1 a.2) (G + 1) (fun i a => a.2 = Int32.ofNat i ∧ Pq o K G st (if K = 2 then i else cntA G i) a.1) (fun n i a hi hI k9 => ?_) (fun n a hI => ?_) gFU 0 (putI st o 9 0, 0) (by omega) (gFU_big (by omega)) ⟨rfl, f0, by rw [gI_pI, if_pos ⟨rfl, rfl⟩]; split <;> rfl, fun p k hp _ => by exfalso; split at hp <;> exact absurd hp (Nat.not_lt_zero _)⟩
  · obtain ⟨s, x⟩ := a
    obtain ⟨e, hP⟩ := hI
    dsimp only at e hP
    subst e
    show w_X1_laysPoints_l7 o Φ _ (n + 1) s _
    rw [w_X1_laysPoints_l7]
    obtain ⟨z0, z1⟩ := kk hP
    rw [z0, z1, lt_of (by omega) (by omega), sub_of (by omega) (by omega)]
    refine ⟨fun h => absurd h (by omega), fun _ => ?_⟩
    rcases hK with rfl | rfl
    · refine ⟨fun h => absurd rfl h, fun _ => ?_⟩
      obtain ⟨c1, c2, c3, c4⟩ := (cntC G (by omega) hG.1).1 i hi
      rw [if_pos rfl] at hP
      refine s_point (by omega) hP (by rw [c2]) (by rw [c3]) (by rw [c4]; rfl) (fun s' hP' => ?_)
      obtain ⟨y0, y1⟩ := kk hP'
      unfold w_X1_laysPoints_b35
      obtain ⟨f, hf⟩ : ∃ f, gFU = f + 1 := ⟨gFU - 1, by unfold gFU; omega⟩
      rw [hf, w_X1_laysPoints_l37, y0, y1, sub_of (by omega) (by omega)]
      have fin : w_X1_laysPoints_b75 o Φ (w_X1_laysPoints_l7 o Φ (fun (s24 : St) => w_X1_laysPoints_b81 o Φ s24) n) s' (Int32.ofNat i) := by
        unfold w_X1_laysPoints_b75
        refine k9 (_, _) ?_
        dsimp only
        refine ⟨succ_of i, ?_⟩
        rw [if_pos rfl]; exact hP'
      exact ⟨fun _ => fin, fun _ => ⟨fun _ => fin, fun h => absurd h (by decide)⟩⟩
    · refine ⟨fun _ => ?_, fun h => absurd h (by decide)⟩
      rw [if_neg (by omega)] at hP
      unfold w_X1_laysPoints_b35
      refine loop_up (α := St × Int32) (L := fun m a => w_X1_laysPoints_l37 o Φ (fun (s15 : St) (x1 : Int32) => w_X1_laysPoints_b75 o Φ (w_X1_laysPoints_l7 o Φ (fun (s24 : St) => w_X1_laysPoints_b81 o Φ s24) n) s15 x1) m a.1 (Int32.ofNat i) a.2) (G - i + 1) (fun j a => a.2 = Int32.ofNat j ∧ Pq o 3 G st (cntA G i + j) a.1) (fun m j a hj hJ k8 => ?_) (fun m a hJ => ?_) gFU 0 (s, 0) (by omega) (gFU_big (by omega)) ⟨rfl, hP⟩
      · obtain ⟨s', y⟩ := a
        obtain ⟨e, hP'⟩ := hJ
        dsimp only at e hP'
        subst e
        show w_X1_laysPoints_l37 o Φ _ (m + 1) s' _ _
        obtain ⟨y0, y1⟩ := kk hP'
        obtain ⟨c1, c2, c3, c4⟩ := (cntB G (by omega) hG.1).1 i hi j hj
        rw [w_X1_laysPoints_l37, y0, y1, sub_of (by omega) (by omega), lt_of (by omega) (by omega), sub_of (by omega) (by omega)]
        refine ⟨fun h => absurd h (by omega), fun _ => ⟨fun h => absurd rfl h, fun _ => ?_⟩⟩
        refine s_point (by omega) hP' (by rw [c2]) (by rw [c3]) (by rw [c4]) (fun s2 hP2 => ?_)
        exact k8 (_, _) ⟨succ_of j, hP2⟩
      · obtain ⟨s', y⟩ := a
        obtain ⟨e, hP'⟩ := hJ
        dsimp only at e hP'
        subst e
        show w_X1_laysPoints_l37 o Φ _ (m + 1) s' _ _
        obtain ⟨y0, y1⟩ := kk hP'
        rw [w_X1_laysPoints_l37, y0, y1, sub_of (by omega) (by omega), lt_of (by omega) (by omega)]
        refine ⟨fun _ => ?_, fun h => absurd (by omega) h⟩
        unfold w_X1_laysPoints_b75
        refine k9 (_, _) ?_
        dsimp only
        refine ⟨succ_of i, ?_⟩
        rw [if_neg (by omega)]; exact hP'
  · obtain ⟨s, x⟩ := a
    obtain ⟨e, hP⟩ := hI
    dsimp only at e hP
    subst e
    show w_X1_laysPoints_l7 o Φ _ (n + 1) s _
    rw [w_X1_laysPoints_l7]
    obtain ⟨z0, z1⟩ := kk hP
    rw [z1, lt_of (by omega) (by omega)]
    refine ⟨fun _ => hend s ?_, fun h => absurd (by omega) h⟩
    rcases hK with rfl | rfl
    · rw [if_pos rfl, (cntC G (by omega) hG.1).2] at hP; exact hP
    · rw [if_neg (by omega), (cntB G (by omega) hG.1).2] at hP; exact hP
/-! states, parts -/
def wAn (a j : Nat) : Prop := wGv 2 a j ∨ (a = 2 ∧ j < 2) ∨ (a = 0 ∧ j = 43) ∨ (a = 177 ∧ (j < 2 ∨ j = 31 ∨ j = 35)) ∨ (a = 175 ∧ j = 5)
theorem Inv_anew {b K G : Nat} {st st' : St} (hI : Inv (b + 1) st) (hF : Fr wAn 0 0 st st') (hK : K = 2 ∨ K = 3) (hG : 1 ≤ G ∧ G ≤ 4) (x0 : sI st' 2 0 = Int32.ofNat K) (x1 : sI st' 2 1 = Int32.ofNat G) (m0 : sI st' 177 0 = Int32.ofNat K) (m1 : sI st' 177 1 = Int32.ofNat G) (hGv : Gv 2 st' K G) (x4 : sI st' 2 4 = 0) (x7 : sR st' 2 7 = none) (m31 : sI st' 177 31 = 0) (m35 : sI st' 177 35 = 0) (x43 : sI st' 0 43 = 0) (m5 : sI st' 175 5 = 0) : Inv b st' := by
  have hN := hI.1.1
  obtain ⟨K0, G0, M, N, ⟨q1, q2, q3, q4, q5, q6, q7, q8, q9, q11, q12⟩, ⟨c1, c2, c3, c4⟩, -, -⟩ := iHr hI
  have nW : ∀ a j, wAn a j → (a = 2 ∧ (j < 2 ∨ j = 4 ∨ j = 7 ∨ j = 9)) ∨ (18 ≤ a ∧ a ≤ 32 ∧ j < 3) ∨ (a = 0 ∧ j = 43) ∨ (a = 177 ∧ (j < 2 ∨ j = 31 ∨ j = 35)) ∨ (a = 175 ∧ j = 5) := fun a j h => by unfold wAn wGv at h; omega
  have s : ∀ a j, a < 201 → ¬ ((a = 2 ∧ (j < 2 ∨ j = 4 ∨ j = 7 ∨ j = 9)) ∨ (18 ≤ a ∧ a ≤ 32 ∧ j < 3) ∨ (a = 0 ∧ j = 43) ∨ (a = 177 ∧ (j < 2 ∨ j = 31 ∨ j = 35)) ∨ (a = 175 ∧ j = 5)) → Same st st' a j := fun a j ha hn => fr_at hF (Or.inl (by omega)) (fun h => hn (nW a j h))
  obtain ⟨r1, r2, r3, r4, r5, r6, r7, r8, r9, r10, r11⟩ := Inv_fr hI hF (by omega) (by omega) (fun a j h hw => by have := nW a j hw; omega)
  have hp := pt15 hK hG
  refine ⟨r1, r2, r3 (fun a j h hw => by have := nW a j hw; unfold REr at h; omega), ⟨K, G, M, N, ⟨hK, hG, q3, q4, m0, m1, by rw [(s 177 2 (by omega) (by omega)).1]; exact q7, by rw [(s 177 3 (by omega) (by omega)).1]; exact q8, ⟨0, by omega, m31⟩, fun j u1 u2 => by rw [(s 177 j (by omega) (by omega)).1]; exact q11 j u1 u2, fun j u1 u2 => by rw [(s 177 j (by omega) (by omega)).1]; exact q12 j u1 u2⟩, ⟨fun j hj => ?_, by rw [x4, m31], fun g r c hg hr hc => by rw [(s _ c (by omega) (by omega)).1, (s 177 _ (by omega) (by omega)).1]; exact c3 g r c hg hr hc, fun k hk => by rw [(s _ k (by omega) (by omega)).1, (s 177 _ (by omega) (by omega)).1]; exact c4 k hk⟩, hGv, Or.inl ⟨x7, m35⟩⟩, r5 (fun a j h hw => by have := nW a j hw; unfold RIm at h; omega), r6 (fun a j h hw => by have := nW a j hw; unfold RZz at h; omega), ⟨by rw [x43, m5], Or.inl x43⟩, r8 (fun a j h hw => by have := nW a j hw; unfold RTp at h; omega), r9 (fun a j h hw => by have := nW a j hw; unfold RLi at h; omega), r10 (fun a j h hw => by have := nW a j hw; unfold RSx at h; omega), r11 (fun a j h hw => by have := nW a j hw; unfold RNt at h; omega)⟩
  rcases (by omega : j = 0 ∨ j = 1 ∨ j = 2 ∨ j = 3) with rfl | rfl | rfl | rfl
  · rw [x0, m0]
  · rw [x1, m1]
  · rw [(s 2 2 (by omega) (by omega)).1, (s 177 2 (by omega) (by omega)).1]; exact c1 2 (by omega)
  · rw [(s 2 3 (by omega) (by omega)).1, (s 177 3 (by omega) (by omega)).1]; exact c1 3 (by omega)
theorem s_anew {s : St} {Φ : St → Prop} (h : ∀ s', Fr (fun a j => (a = 177 ∧ (j = 31 ∨ j = 35)) ∨ (a = 175 ∧ j = 5)) 0 0 s s' → sI s' 177 31 = 0 → sI s' 177 35 = 0 → sI s' 175 5 = 0 → Φ s') : w_X4_anew s Φ := by
  unfold w_X4_anew
  rintro _ rfl _ rfl _ rfl
  exact h _ (Fr_I (Fr_I (Fr_I Fr_rf (Or.inl (Or.inl ⟨rfl, Or.inl rfl⟩))) (Or.inl (Or.inl ⟨rfl, Or.inr rfl⟩))) (Or.inl (Or.inr ⟨rfl, rfl⟩))) (by rw [gI_pI, if_neg (by omega), gI_pI, if_neg (by omega), gI_pI, if_pos ⟨rfl, rfl⟩]) (by rw [gI_pI, if_neg (by omega), gI_pI, if_pos ⟨rfl, rfl⟩]) (by rw [gI_pI, if_pos ⟨rfl, rfl⟩])
theorem o_states {b : Nat} {st : St} {p1 : Int32} {K E : St → Prop} (hI : Inv (b + 1) st) (hK : ∀ s, Inv b s → K s) : w_X0_states st p1 (fun s r => w_X4_states s p1 (fun s' r' => (r = r' → K s') ∧ (¬ r = r' → E s'))) := by
  obtain ⟨hN, hc1, hc2⟩ := Rm1 hI
  obtain ⟨K', G, M, N, q1, q2, q3, q4, q5, q6, q7, q8, q9, q10, q11, q12, q13, q14, q15, q16, q17, q18⟩ := hs_of hI
  unfold w_X0_states
  rw [pe_X0_in]
  refine needI (M := fun s Ψ => w_X4_states s p1 Ψ) hI hK (by decide) (fun hc => ?_) (fun hc s2 f2 Φ h => ?_)
  · obtain ⟨k, k1, k2, rfl⟩ := inB_nat1 (l := 2) (m := 3) (by omega) (by omega) rfl rfl hc
    rintro _ rfl
    unfold w_X1_states
    rintro _ rfl
    refine s_points (K := k) (G := G) (by rw [gN_pI]; exact hN) (by omega) (by omega) q2 (by rw [gI_pI, if_pos ⟨rfl, rfl⟩]) (by rw [gI_pI, if_neg (by omega)]; exact q10) (fun s1 f1 g1 g4 g7 => ?_)
    rintro _ rfl
    show w_X4_states _ _ _
    have fa : Fr wAn 0 0 st (putI s1 0 43 0) := Fr_I (Fr_tr (x := 0) (y := 0) (Fr_I (W := wAn) Fr_rf (Or.inl (Or.inr (Or.inl ⟨rfl, by omega⟩)))) (Fr_mo f1 (fun _ _ h => Or.inl h) (Nat.le_refl _) (Nat.le_refl _))) (Or.inl (Or.inr (Or.inr (Or.inl ⟨rfl, rfl⟩))))
    have x0 : sI (putI s1 0 43 0) 2 0 = Int32.ofNat k := by rw [gI_pI, if_neg (by omega), (fr_at f1 (Or.inl (by rw [gN_pI]; omega)) (by unfold wGv; omega)).1, gI_pI, if_pos ⟨rfl, rfl⟩]
    have x1 : sI (putI s1 0 43 0) 2 1 = Int32.ofNat G := by rw [gI_pI, if_neg (by omega), (fr_at f1 (Or.inl (by rw [gN_pI]; omega)) (by unfold wGv; omega)).1, gI_pI, if_neg (by omega)]; exact q10
    have hg : Gv 2 (putI s1 0 43 0) k G := ⟨by rw [gI_pI, if_neg (by omega)]; exact g1.1, fun p j hp hj => by rw [gI_pI, if_neg (by omega)]; exact g1.2 p j hp hj⟩
    have x4 : sI (putI s1 0 43 0) 2 4 = 0 := by rw [gI_pI, if_neg (by omega)]; exact g4
    have x7 : sR (putI s1 0 43 0) 2 7 = none := by rw [gR_pI]; exact g7
    have x43 : sI (putI s1 0 43 0) 0 43 = 0 := by rw [gI_pI, if_pos ⟨rfl, rfl⟩]
    have m1 : sI (putI s1 0 43 0) 177 1 = Int32.ofNat G := by rw [gI_pI, if_neg (by omega), (fr_at f1 (Or.inl (by rw [gN_pI]; omega)) (by unfold wGv; omega)).1, gI_pI, if_neg (by omega)]; exact q6
    have m0 : sI (putI s1 0 43 0) 177 0 = Int32.ofNat K' := by rw [gI_pI, if_neg (by omega), (fr_at f1 (Or.inl (by rw [gN_pI]; omega)) (by unfold wGv; omega)).1, gI_pI, if_neg (by omega)]; exact q5
    generalize putI s1 0 43 0 = sx at fa x0 x1 hg x4 x7 x43 m1 m0
    unfold w_X4_states
    rw [pe_X4_isIn, hc, ib_nz, ib_z]
    refine ⟨fun _ => ?_, fun h => (by cases h)⟩
    rintro _ rfl _ rfl
    refine s_anew (fun s3 f3 v1 v2 v3 => ⟨fun _ => hK _ ?_, fun h => absurd (q9.trans m0.symm) h⟩)
    have hN2 : 201 ≤ sN (putI sx 177 0 (Int32.ofNat k)) := by rw [gN_pI]; exact Nat.le_trans hN fa.1
    have t : ∀ a j, a < 201 → ¬ ((a = 177 ∧ (j = 31 ∨ j = 35)) ∨ (a = 175 ∧ j = 5)) → Same (putI sx 177 0 (Int32.ofNat k)) s3 a j := fun a j ha h => fr_at f3 (Or.inl (by omega)) h
    have F : Fr wAn 0 0 st s3 := Fr_tr (x := 0) (y := 0) (Fr_I fa (Or.inl (Or.inr (Or.inr (Or.inr (Or.inl ⟨rfl, by omega⟩)))))) (Fr_mo f3 (fun a j h => by unfold wAn; omega) (Nat.le_refl _) (Nat.le_refl _))
    have tx : ∀ a j, a < 170 → Same sx s3 a j := fun a j ha => by
      obtain ⟨t1, t2, t3⟩ := t a j (by omega) (by omega)
      exact ⟨by rw [t1, gI_pI, if_neg (by omega)], by rw [t2, gL_pI], by rw [t3, gR_pI]⟩
    refine Inv_anew hI F (by omega) q2 ((tx 2 0 (by omega)).1.trans x0) ((tx 2 1 (by omega)).1.trans x1) ?_ ?_ ⟨(tx 2 9 (by omega)).1.trans hg.1, fun p j hp hj => ?_⟩ ((tx 2 4 (by omega)).1.trans x4) ((tx 2 7 (by omega)).2.2.trans x7) v1 v2 ((tx 0 43 (by omega)).1.trans x43) v3
    · rw [(t 177 0 (by omega) (by omega)).1, gI_pI, if_pos ⟨rfl, rfl⟩]
    · rw [(t 177 1 (by omega) (by omega)).1, gI_pI, if_neg (by omega)]; exact m1
    · have hp15 := pt15 (K := k) (G := G) (by omega) q2
      exact (tx _ j (by omega)).1.trans (hg.2 p j hp hj)
  · show w_X4_states s2 _ _
    unfold w_X4_states
    rw [pe_X4_isIn, hc, ib_nz, ib_z]
    exact ⟨fun h => (by cases h), fun _ => h⟩
theorem o_parts {b : Nat} {st : St} {p1 : Int32} {K E : St → Prop} (hI : Inv (b + 1) st) (hK : ∀ s, Inv b s → K s) : w_X0_parts st p1 (fun s r => w_X4_parts s p1 (fun s' r' => (r = r' → K s') ∧ (¬ r = r' → E s'))) := by
  obtain ⟨hN, hc1, hc2⟩ := Rm1 hI
  obtain ⟨K', G, M, N, q1, q2, q3, q4, q5, q6, q7, q8, q9, q10, q11, q12, q13, q14, q15, q16, q17, q18⟩ := hs_of hI
  unfold w_X0_parts
  rw [pe_X0_in]
  refine needI (M := fun s Ψ => w_X4_parts s p1 Ψ) hI hK (by decide) (fun hc => ?_) (fun hc s2 f2 Φ h => ?_)
  · obtain ⟨k, k1, k2, rfl⟩ := inB_nat1 (l := 1) (m := 4) (by omega) (by omega) rfl rfl hc
    rintro _ rfl
    unfold w_X1_parts
    rintro _ rfl
    refine s_points (K := K') (G := k) (by rw [gN_pI]; exact hN) (by omega) q1 (by omega) (by rw [gI_pI, if_neg (by omega)]; exact q9) (by rw [gI_pI, if_pos ⟨rfl, rfl⟩]) (fun s1 f1 g1 g4 g7 => ?_)
    rintro _ rfl
    show w_X4_parts _ _ _
    have fa : Fr wAn 0 0 st (putI s1 0 43 0) := Fr_I (Fr_tr (x := 0) (y := 0) (Fr_I (W := wAn) Fr_rf (Or.inl (Or.inr (Or.inl ⟨rfl, by omega⟩)))) (Fr_mo f1 (fun _ _ h => Or.inl h) (Nat.le_refl _) (Nat.le_refl _))) (Or.inl (Or.inr (Or.inr (Or.inl ⟨rfl, rfl⟩))))
    have x1 : sI (putI s1 0 43 0) 2 1 = Int32.ofNat k := by rw [gI_pI, if_neg (by omega), (fr_at f1 (Or.inl (by rw [gN_pI]; omega)) (by unfold wGv; omega)).1, gI_pI, if_pos ⟨rfl, rfl⟩]
    have x0 : sI (putI s1 0 43 0) 2 0 = Int32.ofNat K' := by rw [gI_pI, if_neg (by omega), (fr_at f1 (Or.inl (by rw [gN_pI]; omega)) (by unfold wGv; omega)).1, gI_pI, if_neg (by omega)]; exact q9
    have hg : Gv 2 (putI s1 0 43 0) K' k := ⟨by rw [gI_pI, if_neg (by omega)]; exact g1.1, fun p j hp hj => by rw [gI_pI, if_neg (by omega)]; exact g1.2 p j hp hj⟩
    have x4 : sI (putI s1 0 43 0) 2 4 = 0 := by rw [gI_pI, if_neg (by omega)]; exact g4
    have x7 : sR (putI s1 0 43 0) 2 7 = none := by rw [gR_pI]; exact g7
    have x43 : sI (putI s1 0 43 0) 0 43 = 0 := by rw [gI_pI, if_pos ⟨rfl, rfl⟩]
    have m1 : sI (putI s1 0 43 0) 177 1 = Int32.ofNat G := by rw [gI_pI, if_neg (by omega), (fr_at f1 (Or.inl (by rw [gN_pI]; omega)) (by unfold wGv; omega)).1, gI_pI, if_neg (by omega)]; exact q6
    have m0 : sI (putI s1 0 43 0) 177 0 = Int32.ofNat K' := by rw [gI_pI, if_neg (by omega), (fr_at f1 (Or.inl (by rw [gN_pI]; omega)) (by unfold wGv; omega)).1, gI_pI, if_neg (by omega)]; exact q5
    generalize putI s1 0 43 0 = sx at fa x0 x1 hg x4 x7 x43 m1 m0
    unfold w_X4_parts
    rw [pe_X4_isIn, hc, ib_nz, ib_z]
    refine ⟨fun _ => ?_, fun h => (by cases h)⟩
    rintro _ rfl _ rfl
    refine s_anew (fun s3 f3 v1 v2 v3 => ⟨fun _ => hK _ ?_, fun h => absurd (q10.trans m1.symm) h⟩)
    have hN2 : 201 ≤ sN (putI sx 177 1 (Int32.ofNat k)) := by rw [gN_pI]; exact Nat.le_trans hN fa.1
    have t : ∀ a j, a < 201 → ¬ ((a = 177 ∧ (j = 31 ∨ j = 35)) ∨ (a = 175 ∧ j = 5)) → Same (putI sx 177 1 (Int32.ofNat k)) s3 a j := fun a j ha h => fr_at f3 (Or.inl (by omega)) h
    have F : Fr wAn 0 0 st s3 := Fr_tr (x := 0) (y := 0) (Fr_I fa (Or.inl (Or.inr (Or.inr (Or.inr (Or.inl ⟨rfl, by omega⟩)))))) (Fr_mo f3 (fun a j h => by unfold wAn; omega) (Nat.le_refl _) (Nat.le_refl _))
    have tx : ∀ a j, a < 170 → Same sx s3 a j := fun a j ha => by
      obtain ⟨t1, t2, t3⟩ := t a j (by omega) (by omega)
      exact ⟨by rw [t1, gI_pI, if_neg (by omega)], by rw [t2, gL_pI], by rw [t3, gR_pI]⟩
    refine Inv_anew hI F q1 (by omega) ((tx 2 0 (by omega)).1.trans x0) ((tx 2 1 (by omega)).1.trans x1) ?_ ?_ ⟨(tx 2 9 (by omega)).1.trans hg.1, fun p j hp hj => ?_⟩ ((tx 2 4 (by omega)).1.trans x4) ((tx 2 7 (by omega)).2.2.trans x7) v1 v2 ((tx 0 43 (by omega)).1.trans x43) v3
    · rw [(t 177 0 (by omega) (by omega)).1, gI_pI, if_neg (by omega)]; exact m0
    · rw [(t 177 1 (by omega) (by omega)).1, gI_pI, if_pos ⟨rfl, rfl⟩]
    · have hp15 := pt15 (K := K') (G := k) q1 (by omega)
      exact (tx _ j (by omega)).1.trans (hg.2 p j hp hj)
  · show w_X4_parts s2 _ _
    unfold w_X4_parts
    rw [pe_X4_isIn, hc, ib_nz, ib_z]
    exact ⟨fun h => (by cases h), fun _ => h⟩
