/-! PLAIN LAW, 60: mix -/
set_option maxRecDepth 100000
/-- the component mixes over a set told -/
theorem x_mixgo {st : St} {K G M N p n : Nat} {s : Nat × Nat × Nat} {p2 p3 p4 p5 : Int32} {Φ : St → Int64 → Prop} (hN : 201 ≤ sN st) (hs : Hs st K G M N) (h138 : pR st 138 = (0, 1)) (hp : p < ptN K G) (hV : Val (ptN K G) n s) (e2 : p2 = Int32.ofNat (gT s 0)) (e3 : 1 < n → p3 = Int32.ofNat (gT s 1)) (e4 : 2 < n → p4 = Int32.ofNat (gT s 2)) (h1 : spB K G p n (gT s) = true → ∀ v, mixF K G M N p (gmF st) n s = some v → ∀ s', Fr wHX 0 0 st s' → Φ s' (if p5 = 0 then v.1 else v.2)) (h2 : spB K G p n (gT s) = true → mixF K G M N p (gmF st) n s = none → ∀ s', Fr wHX 0 0 st s' → jkA s' (fun s154 => w_X0_isFarBig s154 (fun s156 r155 => Φ s156 r155))) (h3 : spB K G p n (gT s) = false → ∀ s', Fr wHX 0 0 st s' → ∀ Ψ : St → Prop, w_X0_need s' 0 3 Ψ (fun s102 a103 => w_X0_answersFar s102 a103 (fun s127 r126 => Φ s127 r126))) : w_X0_mix_b137 Φ st (Int32.ofNat p) p2 p3 p4 p5 (Int32.ofNat n) 1 := by
  obtain ⟨n1, n3, g1, g2⟩ := gT_lt hV
  have q1 := hs.1
  have q2 := hs.2.1
  have hp15 := pt15 q1 q2
  unfold w_X0_mix_b137
  refine need_1 ?_
  intro s74 e74 s76 e76 s78 e78
  have F78 : Fr w136 0 0 st s78 := by rw [e78, e76, e74]; exact Fr_I (Fr_I (Fr_I Fr_rf (Or.inl ⟨rfl, by omega⟩)) (Or.inl ⟨rfl, by omega⟩)) (Or.inl ⟨rfl, by omega⟩)
  have v78 : ∀ k, k < n → sI s78 136 k = Int32.ofNat (gT s k) := fun k hk => by
    rcases (by omega : k = 0 ∨ k = 1 ∨ k = 2) with rfl | rfl | rfl
    · rw [e78, gI_pI, if_neg (by omega), e76, gI_pI, if_neg (by omega), e74, gI_pI, if_pos ⟨rfl, rfl⟩, e2]
    · rw [e78, gI_pI, if_neg (by omega), e76, gI_pI, if_pos ⟨rfl, rfl⟩, e3 hk]
    · rw [e78, gI_pI, if_pos ⟨rfl, rfl⟩, e4 hk]
  clear e74 e76 e78
  have w136x : ∀ a j, w136 a j → wHX a j := fun a j h => Or.inr (Or.inr (Or.inr (Or.inl h)))
  have wWxx : ∀ a j, wWx a j → wHX a j := fun a j h => Or.inr (Or.inl h)
  have wMxx : ∀ a j, wMx a j → wHX a j := fun a j h => Or.inr (Or.inr (Or.inl h))
  have hN78 : 201 ≤ sN s78 := Nat.le_trans hN F78.1
  obtain ⟨hs78, -⟩ := Hs_q F78 hN (fun a j h hw => by unfold w136 at hw; omega) hs
  have g78 : gmF s78 = gmF st := gm_eq F78 hN (fun j hw => by unfold w136 at hw; omega)
  refine x_splits hs78 hp ⟨n1, n3⟩ g1 g2 v78 (fun hsp s84 F84 hW => ?_) (fun hsp s84 F84 => ?_)
  · have hN84 : 201 ≤ sN s84 := Nat.le_trans hN78 F84.1
    obtain ⟨hs84, -⟩ := Hs_q F84 hN78 (fun a j h hw => by unfold wWx at hw; omega) hs78
    have g84 : gmF s84 = gmF st := (gm_eq F84 hN78 (fun j hw => by unfold wWx at hw; omega)).trans g78
    have FX84 : Fr wHX 0 0 st s84 := Fr_tr (x := 0) (y := 0) (Fr_mo F78 w136x (Nat.le_refl _) (Nat.le_refl _)) (Fr_mo F84 wWxx (Nat.le_refl _) (Nat.le_refl _))
    have v84 : ∀ k, k < n → sI s84 136 k = Int32.ofNat (gT s k) := fun k hk => (fr_at F84 (Or.inl (by omega)) (by unfold wWx; omega)).1.trans (v78 k hk)
    refine need_1 ?_
    refine x_allWorths hN84 hs84 (fun s121 F121 v121 => ?_)
    rw [g84] at v121
    have nW : ∀ a j, wWv a j → (a = 0 ∧ (j = 8 ∨ j = 9 ∨ j = 16 ∨ j = 17)) ∨ (96 ≤ a ∧ a ≤ 132) ∨ (149 ≤ a ∧ a ≤ 163) := fun a j h => by unfold wWv wTb wKx wSv at h; omega
    have hN121 : 201 ≤ sN s121 := Nat.le_trans hN84 F121.1
    have FX121 : Fr wHX 0 0 st s121 := Fr_tr (x := 0) (y := 0) FX84 (Fr_mo F121 (fun _ _ h => Or.inl h) (Nat.le_refl _) (Nat.le_refl _))
    have v136 : ∀ k, k < n → sI s121 136 k = Int32.ofNat (gT s k) := fun k hk => (fr_at F121 (Or.inl (by omega)) (fun h => by have := nW _ _ h; omega)).1.trans (v84 k hk)
    have hW121 : ∀ i, i < n → pR s121 (164 + 2 * i) = wLo K G p n (gT s) i := fun i hi => (pR_at F121 (by omega) (fun j hj h => by have := nW _ _ h; omega)).trans (hW i hi)
    have p138 : pR s121 138 = (0, 1) := (pR_at FX121 (by omega) (fun j hj h => by have := wHX_c h; omega)).trans h138
    obtain ⟨hok, -⟩ := spB_t.mp hsp
    obtain ⟨-, hw2⟩ := wB q1 q2 ⟨n1, n3⟩ hp g1 g2 hok
    refine x_mixes (S := gT s) (W := wLo K G p n (gT s)) (U := fun i => uR K G M N (gT s i) (gmF st)) hN121 n3 (fun i hi => ⟨v136 i hi, by have := g1 i hi; omega⟩) hW121 (fun i hi => v121 _ (g1 i hi)) (fun i hi => ⟨(hw2 i hi).2.1, uR_pos hs (g1 i hi)⟩) p138 (fun v hm s153 F153 p153 => ?_) (fun hm s153 F153 => ?_)
    · have k9 := h1 hsp v hm s153 (Fr_tr (x := 0) (y := 0) FX121 (Fr_mo F153 wMxx (Nat.le_refl _) (Nat.le_refl _)))
      have z1 : sL s153 139 0 = v.1 := congrArg Prod.fst p153
      have z2 : sL s153 139 1 = v.2 := congrArg Prod.snd p153
      unfold w_X2_part
      rw [z1, z2]
      refine ⟨fun hp2 => ?_, fun hp2 => ?_⟩
      · rw [if_neg hp2] at k9; exact k9
      · rw [if_pos hp2] at k9; exact k9
    · exact h2 hsp hm s153 (Fr_tr (x := 0) (y := 0) FX121 (Fr_mo F153 wMxx (Nat.le_refl _) (Nat.le_refl _)))
  · exact h3 hsp s84 (Fr_tr (x := 0) (y := 0) (Fr_mo F78 w136x (Nat.le_refl _) (Nat.le_refl _)) (Fr_mo F84 wWxx (Nat.le_refl _) (Nat.le_refl _))) _
/-- the reference mixes over a set told -/
theorem m_mixgo {st : St} {K G M N p n : Nat} {s : Nat × Nat × Nat} {p5 : Int32} {Φ : St → Int64 → Prop} (hN : 201 ≤ sN st) (hs : Hs st K G M N) (hp : p < ptN K G) (hV : Val (ptN K G) n s) (hv : ∀ k, k < n → sI st 197 k = Int32.ofNat (gT s k)) (h1 : spB K G p n (gT s) = true → ∀ v, mixF K G M N p (gmF st) n s = some v → ∀ s', Fr wHm 0 0 st s' → Φ s' (if p5 = 0 then v.1 else v.2)) (h2 : spB K G p n (gT s) = true → mixF K G M N p (gmF st) n s = none → ∀ s', Fr wHm 0 0 st s' → w_X4_findsFar s' 6 Φ) (h3 : spB K G p n (gT s) = false → ∀ s', Fr wHm 0 0 st s' → w_X4_findsFar s' 3 Φ) : w_X4_mix_b140 Φ st (Int32.ofNat p) p5 1 (Int32.ofNat n) := by
  obtain ⟨n1, n3, g1, g2⟩ := gT_lt hV
  have q1 := hs.1
  have q2 := hs.2.1
  have hp15 := pt15 q1 q2
  have hf : ¬ (wOk K G p n (gT s) ∧ ∀ i, i < n → 0 < wUp K G p n (gT s) i) → spB K G p n (gT s) = false := fun h => by
    cases hc : spB K G p n (gT s) with
    | false => rfl
    | true => exact absurd (spB_t.mp hc) h
  unfold w_X4_mix_b140
  intro s48 e48
  have F48 : Fr wHm 0 0 st s48 := by rw [e48]; exact Fr_I Fr_rf (Or.inl (Or.inr (Or.inr (Or.inr (Or.inr ⟨rfl, rfl⟩)))))
  have h36 : sI s48 175 36 = Int32.ofNat n := by rw [e48, gI_pI, if_pos ⟨rfl, rfl⟩]
  have v48 : ∀ k, k < n → sI s48 197 k = Int32.ofNat (gT s k) := fun k hk => by rw [e48, gI_pI, if_neg (by omega)]; exact hv k hk
  clear e48
  have hN48 : 201 ≤ sN s48 := Nat.le_trans hN F48.1
  have X48 : Xm st s48 K G M N (gmF st) := Xm_st hN ⟨Fr_rf, hs, rfl⟩ F48 (fun _ _ h => h)
  refine ⟨fun h => absurd h (by decide), fun _ => ?_⟩
  unfold w_X4_mix_b164
  refine m_weighs X48.2.1 hp ⟨n1, n3⟩ g1 g2 h36 v48 (fun hok s3 F3 d3 w3 => ⟨fun h => absurd h (by decide), fun _ => ?_⟩) (fun hok s3 F3 => ⟨fun _ => h3 (hf (fun h => hok h.1)) s3 (Xm_st hN X48 F3 (fun a j h => Or.inr (Or.inl h))).1, fun h => absurd rfl h⟩)
  obtain ⟨hDp, hw2⟩ := wB q1 q2 ⟨n1, n3⟩ hp g1 g2 hok
  have hN3 : 201 ≤ sN s3 := Nat.le_trans hN48 F3.1
  have X3 := Xm_st hN X48 F3 (fun a j h => Or.inr (Or.inl h))
  have h36' : sI s3 175 36 = Int32.ofNat n := (fr_at F3 (Or.inl (by omega)) (by unfold wWm; omega)).1.trans h36
  have v3 : ∀ k, k < n → sI s3 197 k = Int32.ofNat (gT s k) := fun k hk => (fr_at F3 (Or.inl (by omega)) (by unfold wWm; omega)).1.trans (v48 k hk)
  refine m_above (t := 1) (u := wUp K G p n (gT s)) n3 (by unfold fit; omega) h36' (fun i hi => by rw [w3 i hi]; exact (hw2 i hi).1) ?_
  rw [ib_nz, ib_z]
  refine ⟨fun hc => ?_, fun hc => h3 (hf (fun h => (of_decide_eq_false hc) (fun i hi => by have := h.2 i hi; omega))) s3 X3.1⟩
  have hsp : spB K G p n (gT s) = true := spB_t.mpr ⟨hok, fun i hi => by have := (of_decide_eq_true hc) i hi; omega⟩
  refine m_begins (fun s5 f5 c5 z5 => ?_)
  have F5 : Fr wHm 0 0 s3 s5 := Fr_mo f5 (fun a j h => Or.inl (by unfold wU wR; omega)) (Nat.le_refl _) (Nat.le_refl _)
  have X5 := Xm_st hN X3 F5 (fun _ _ h => h)
  have hN5 : 201 ≤ sN s5 := Nat.le_trans hN3 f5.1
  have o5 : ∀ a j, a < 201 → ¬ ((a = 175 ∧ j = 20) ∨ (a = 196 ∧ j < 15)) → Same s3 s5 a j := fun a j g1 g2 => fr_at f5 (Or.inl (by omega)) g2
  have d5 : sL s5 175 38 = Int64.ofInt (upI (wDn K G n (gT s)) (wDn K G n (gT s))) := (o5 175 38 (by omega) (by omega)).2.1.trans d3
  refine m_mixes (S := gT s) (W := wLo K G p n (gT s)) (c := false) hN5 X5.2.1 ⟨n1, n3⟩ ((o5 175 36 (by omega) (by omega)).1.trans h36') (fun i hi => ⟨(o5 197 i (by omega) (by omega)).1.trans (v3 i hi), g1 i hi⟩) c5 (fun _ => Mm_0 hp15.1 z5) (by rw [d5]; exact hDp) (fun i hi => by rw [(o5 198 i (by omega) (by omega)).2.1, w3 i hi, d5]; rfl) (fun s21 F21 c21 l21 m21 => ?_)
  rw [X5.2.2] at c21 l21
  have em : mxO (wLo K G p n (gT s)) (fun i => uR K G M N (gT s i) (gmF st)) n = mixF K G M N p (gmF st) n s := rfl
  rw [em] at c21 l21
  rw [Bool.false_or] at c21
  have X21 := Xm_st hN X5 F21 (fun a j h => Or.inl h)
  cases hmx : mixF K G M N p (gmF st) n s with
  | none =>
    rw [hmx] at c21
    have c21' : sI s21 175 20 = 1 := c21
    rw [c21']
    exact ⟨fun h => absurd h (by decide), fun _ => h2 hsp hmx s21 X21.1⟩
  | some v =>
    rw [hmx] at c21
    have c21' : sI s21 175 20 = 0 := c21
    have l9 := l21 rfl v hmx
    have z1 : sL s21 175 18 = v.1 := by rw [← l9]
    have z2 : sL s21 175 19 = v.2 := by rw [← l9]
    have k9 := h1 hsp v hmx s21 X21.1
    rw [c21', z1, z2]
    refine ⟨fun _ => ⟨fun hp2 => ?_, fun hp2 => ?_⟩, fun h => absurd rfl h⟩
    · rw [if_neg hp2] at k9; exact k9
    · rw [if_pos hp2] at k9; exact k9
def toldB (p : Int32) (P : Nat) : Bool := decide (p = -1) || inB p.toInt64 0 (Int64.ofInt ((P - 1 : Nat) : Int))
theorem pe_told {st : St} {p : Int32} {P : Nat} {Φ : Int32 → Prop} (h9 : sI st 2 9 = Int32.ofNat P) (h1 : 1 ≤ P) (h2 : P < 2 ^ 31) : w_X0_isToldPoint st p Φ = Φ (ib (toldB p P)) := by
  unfold w_X0_isToldPoint w_X0_isToldPoint_b16 toldB
  rw [pe_X1_isPoint, h9, sub1_64 h1 h2]
  by_cases e : p = -1
  · rw [decide_eq_true e]; simp [e, ib]
  · rw [decide_eq_false e, Bool.false_or]
    cases inB p.toInt64 0 (Int64.ofInt ((P - 1 : Nat) : Int)) <;> simp [e, ib]
theorem e_mix {st : St} {p1 p2 p3 p4 p5 : Int32} {P : Nat} {Φ : St → Int64 → Prop} (h9 : sI st 2 9 = Int32.ofNat P) (g1 : 1 ≤ P) (g2 : P < 2 ^ 31) (h : w_X0_mix_b52 Φ st p1 p2 p3 p4 p5 (ib (inB p1.toInt64 0 (Int64.ofInt ((P - 1 : Nat) : Int)) && (inB p2.toInt64 0 (Int64.ofInt ((P - 1 : Nat) : Int)) && (toldB p3 P && (toldB p4 P && inB p5.toInt64 0 1)))))) : w_X0_mix st p1 p2 p3 p4 p5 Φ := by
  unfold w_X0_mix w_X0_mix_b51
  simp only [pe_X1_isPoint, pe_told h9 g1 g2, pe_X0_isPart, ib_z, h9, sub1_64 g1 g2]
  revert h
  cases inB p1.toInt64 0 (Int64.ofInt ((P - 1 : Nat) : Int)) <;> cases inB p2.toInt64 0 (Int64.ofInt ((P - 1 : Nat) : Int)) <;> cases toldB p3 P <;> cases toldB p4 P <;> cases inB p5.toInt64 0 1 <;> simp [ib]
/-- the reference's tests of what is told -/
theorem m_mix_in {st : St} {K G : Nat} {p1 p2 p3 p4 p5 : Int32} {Φ : St → Int64 → Prop} (hK : K = 2 ∨ K = 3) (hG : 1 ≤ G ∧ G ≤ 4) (h0 : sI st 177 0 = Int32.ofNat K) (h1 : sI st 177 1 = Int32.ofNat G) (g1 : (inB p1.toInt64 0 (Int64.ofInt ((ptN K G - 1 : Nat) : Int)) && (inB p2.toInt64 0 (Int64.ofInt ((ptN K G - 1 : Nat) : Int)) && (toldB p3 (ptN K G) && (toldB p4 (ptN K G) && inB p5.toInt64 0 1)))) = true → ((p3 < 0) → w_X4_mix_b67 Φ st p1 p2 p3 p4 p5) ∧ ((¬ p3 < 0) → ((p3 ≤ p2) → w_X4_mix_b96 Φ st p1 p2 p3 p4 p5) ∧ ((¬ p3 ≤ p2) → w_X4_mix_b67 Φ st p1 p2 p3 p4 p5))) (g0 : (inB p1.toInt64 0 (Int64.ofInt ((ptN K G - 1 : Nat) : Int)) && (inB p2.toInt64 0 (Int64.ofInt ((ptN K G - 1 : Nat) : Int)) && (toldB p3 (ptN K G) && (toldB p4 (ptN K G) && inB p5.toInt64 0 1)))) = false → w_X4_findsFar st 1 Φ) : w_X4_mix st p1 p2 p3 p4 p5 Φ := by
  unfold w_X4_mix w_X4_mix_b29 w_X4_mix_b44 w_X4_mix_b52
  simp only [pe_X4_isPoint h0 h1 hK hG, pe_X4_isPart, ib_z, ib_nz]
  revert g1 g0
  unfold toldB
  generalize (((p3 < 0) → w_X4_mix_b67 Φ st p1 p2 p3 p4 p5) ∧ ((¬ p3 < 0) → ((p3 ≤ p2) → w_X4_mix_b96 Φ st p1 p2 p3 p4 p5) ∧ ((¬ p3 ≤ p2) → w_X4_mix_b67 Φ st p1 p2 p3 p4 p5))) = A
  generalize w_X4_findsFar st 1 Φ = B
  by_cases e3 : p3 = -1 <;> by_cases e4 : p4 = -1 <;> cases inB p1.toInt64 0 (Int64.ofInt ((ptN K G - 1 : Nat) : Int)) <;> cases inB p2.toInt64 0 (Int64.ofInt ((ptN K G - 1 : Nat) : Int)) <;> cases inB p3.toInt64 0 (Int64.ofInt ((ptN K G - 1 : Nat) : Int)) <;> cases inB p4.toInt64 0 (Int64.ofInt ((ptN K G - 1 : Nat) : Int)) <;> cases inB p5.toInt64 0 1 <;> simp [e3, e4]
theorem told_of {p : Int32} {P : Nat} (hP : 1 ≤ P) (hP2 : P < 2 ^ 31) (h : toldB p P = true) : p = -1 ∨ ∃ n, n < P ∧ p = Int32.ofNat n := by
  unfold toldB at h
  rcases Bool.or_eq_true_iff.mp h with h | h
  · exact Or.inl (of_decide_eq_true h)
  · obtain ⟨n, g1, g2⟩ := inB_nat (m := P - 1) (by omega) rfl h
    exact Or.inr ⟨n, by omega, g2⟩
theorem o_mix {b : Nat} {st : St} {p1 p2 p3 p4 p5 : Int32} {K E : St → Prop} (hI : Inv (b + 1) st) (hK' : ∀ s, Inv b s → K s) : w_X0_mix st p1 p2 p3 p4 p5 (fun s r => w_X4_mix s p1 p2 p3 p4 p5 (fun s' r' => (r = r' → K s') ∧ (¬ r = r' → E s'))) := by
  obtain ⟨hN, hc1, hc2⟩ := Rm1 hI
  obtain ⟨K', G, M, N, hs⟩ := Hs_of hI
  have hh := hs
  obtain ⟨q1, q2, q3, q4, q5, q6, q7, q8, q9, q10, q11, q12, q13, q14, q15, q16⟩ := hh
  have hp15 := pt15 q1 q2
  have h138 : pR st 138 = (0, 1) := by obtain ⟨a1, a2⟩ := iNt hI; unfold pR; rw [a1, a2]
  refine e_mix q13 (by omega) (by omega) ?_
  unfold w_X0_mix_b52
  refine needL (M := fun s Ψ => w_X4_mix s p1 p2 p3 p4 p5 Ψ) hI hK' (by decide) (fun hc => ?_) (fun hc s2 f2 Φ h => ?_)
  · have hc' := hc
    obtain ⟨h1, hc⟩ := Bool.and_eq_true_iff.mp hc
    obtain ⟨h2, hc⟩ := Bool.and_eq_true_iff.mp hc
    obtain ⟨h3, hc⟩ := Bool.and_eq_true_iff.mp hc
    obtain ⟨h4, -⟩ := Bool.and_eq_true_iff.mp hc
    clear hc
    obtain ⟨p, g1, rfl⟩ := inB_nat (m := ptN K' G - 1) (by omega) rfl h1
    obtain ⟨a, g2, rfl⟩ := inB_nat (m := ptN K' G - 1) (by omega) rfl h2
    have hp : p < ptN K' G := by omega
    have ha : a < ptN K' G := by omega
    have t3 := told_of (by omega) (by omega) h3
    have t4 := told_of (by omega) (by omega) h4
    clear h1 h2 h3 h4 g1 g2
    have neg1 : ((-1 : Int32) < 0) = True := by decide
    have negl : ((0 : Int32) ≤ -1) = False := by decide
    have pos0 : ∀ x, x < 2 ^ 31 → (Int32.ofNat x < (0 : Int32)) = False := fun x hx => by
      rw [show (Int32.ofNat x < (0 : Int32)) = (x < 0) from lt_of (n := 0) hx (by omega)]; exact eq_false (by omega)
    have posl : ∀ x, x < 2 ^ 31 → ((0 : Int32) ≤ Int32.ofNat x) = True := fun x hx => by
      rw [show ((0 : Int32) ≤ Int32.ofNat x) = (0 ≤ x) from le_of (m := 0) (by omega) hx]; exact eq_true (by omega)
    have ne1 : ∀ x, x < 2 ^ 31 → (Int32.ofNat x = (-1 : Int32)) = False := fun x hx => by
      refine eq_false (fun h => ?_)
      have := pos0 x hx
      rw [h, neg1] at this
      exact this.mp trivial
    -- the reference reaches its sums
    have Pm : ∀ s, 201 ≤ sN s → Hs s K' G M N → gmF s = gmF st → ∀ Φ : St → Int64 → Prop, (((p3 < 0) → w_X4_mix_b67 Φ s (Int32.ofNat p) (Int32.ofNat a) p3 p4 p5) ∧ ((¬ p3 < 0) → ((p3 ≤ Int32.ofNat a) → w_X4_mix_b96 Φ s (Int32.ofNat p) (Int32.ofNat a) p3 p4 p5) ∧ ((¬ p3 ≤ Int32.ofNat a) → w_X4_mix_b67 Φ s (Int32.ofNat p) (Int32.ofNat a) p3 p4 p5))) → w_X4_mix s (Int32.ofNat p) (Int32.ofNat a) p3 p4 p5 Φ := fun s hNs hss gs Φ h => m_mix_in q1 q2 hss.2.2.2.2.1 hss.2.2.2.2.2.1 (fun _ => h) (fun hf => by rw [hf] at hc'; cases hc')
    -- sets that don't stand in order
    have badm : ∀ s, 201 ≤ sN s → ∀ Φ : St → Int64 → Prop, (∀ s3, Fr wHm 0 0 s s3 → w_X4_findsFar s3 3 Φ) → w_X4_mix_b96 Φ s (Int32.ofNat p) (Int32.ofNat a) p3 p4 p5 := fun s hNs Φ h => by
      unfold w_X4_mix_b96 w_X4_mix_b97
      intro s40 e40 s42 e42 s44 e44
      have F : Fr wHm 0 0 s s44 := by rw [e44, e42, e40]; exact Fr_I (Fr_I (Fr_I Fr_rf (Or.inl (by unfold wHm; omega))) (Or.inl (by unfold wHm; omega))) (Or.inl (by unfold wHm; omega))
      have go : ∀ z, w_X4_mix_b140 Φ s44 (Int32.ofNat p) p5 0 z := fun z => by
        unfold w_X4_mix_b140 w_X4_mix_b164
        intro s48 e48
        refine ⟨fun _ => h s48 (by rw [e48]; exact Fr_I F (Or.inl (by unfold wHm; omega))), fun h => absurd rfl h⟩
      exact ⟨fun _ => ⟨fun _ => go _, fun _ => go _⟩, fun _ => go _⟩
    have bad : (∀ s, 201 ≤ sN s → Hs s K' G M N → gmF s = gmF st → ∀ Φ : St → Int64 → Prop, w_X4_mix_b96 Φ s (Int32.ofNat p) (Int32.ofNat a) p3 p4 p5 → w_X4_mix s (Int32.ofNat p) (Int32.ofNat a) p3 p4 p5 Φ) → ∀ Ψ : St → Prop, w_X0_need st 0 3 Ψ (fun s a9 => w_X0_answersFar s a9 (fun s r => w_X4_mix s (Int32.ofNat p) (Int32.ofNat a) p3 p4 p5 (fun s' r' => (r = r' → K s') ∧ (¬ r = r' → E s')))) := fun hb Ψ => by
      refine needWL (c := false) (k := 3) (W := wHX) (M := fun s Ψ => w_X4_mix s (Int32.ofNat p) (Int32.ofNat a) p3 p4 p5 Ψ) hI hK' (by decide) wHX_Q Fr_rf (fun h => by cases h) (fun _ s2 f2 Φ h => ?_)
      obtain ⟨hs2, g2⟩ := Hs_W f2 hN wHX_n hs
      have hN2 : 201 ≤ sN s2 := Nat.le_trans hN f2.1
      exact hb s2 hN2 hs2 g2 Φ (badm s2 hN2 Φ (fun s3 f3 => m_errQL (k := 3) (by decide) (Fr_mo f3 wHm_Q (Nat.le_refl _) (Nat.le_refl _)) hN2 h))
    -- sets in order
    have good : ∀ (n : Nat) (s : Nat × Nat × Nat), Val (ptN K' G) n s → gT s 0 = a → (1 < n → p3 = Int32.ofNat (gT s 1)) → (2 < n → p4 = Int32.ofNat (gT s 2)) → (∀ s1, 201 ≤ sN s1 → Hs s1 K' G M N → gmF s1 = gmF st → ∀ Φ : St → Int64 → Prop, (∀ s2, Fr (fun a j => a = 197 ∧ j < 3) 0 0 s1 s2 → (∀ k, k < n → sI s2 197 k = Int32.ofNat (gT s k)) → w_X4_mix_b140 Φ s2 (Int32.ofNat p) p5 1 (Int32.ofNat n)) → w_X4_mix s1 (Int32.ofNat p) (Int32.ofNat a) p3 p4 p5 Φ) → w_X0_mix_b137 (fun s r => w_X4_mix s (Int32.ofNat p) (Int32.ofNat a) p3 p4 p5 (fun s' r' => (r = r' → K s') ∧ (¬ r = r' → E s'))) st (Int32.ofNat p) (Int32.ofNat a) p3 p4 p5 (Int32.ofNat n) 1 := fun n s hV e0 e1 e2 hb => by
      have run : ∀ s1, 201 ≤ sN s1 → Hs s1 K' G M N → gmF s1 = gmF st → ∀ Φ : St → Int64 → Prop, (spB K' G p n (gT s) = true → ∀ v, mixF K' G M N p (gmF st) n s = some v → ∀ s', Fr wHm 0 0 s1 s' → Φ s' (if p5 = 0 then v.1 else v.2)) → (spB K' G p n (gT s) = true → mixF K' G M N p (gmF st) n s = none → ∀ s', Fr wHm 0 0 s1 s' → w_X4_findsFar s' 6 Φ) → (spB K' G p n (gT s) = false → ∀ s', Fr wHm 0 0 s1 s' → w_X4_findsFar s' 3 Φ) → w_X4_mix s1 (Int32.ofNat p) (Int32.ofNat a) p3 p4 p5 Φ := fun s1 hN1 hs1 gs1 Φ k1 k2 k3 => by
        refine hb s1 hN1 hs1 gs1 Φ (fun s2 f2 v2 => ?_)
        have hN2 : 201 ≤ sN s2 := Nat.le_trans hN1 f2.1
        have F2 : Fr wHm 0 0 s1 s2 := Fr_mo f2 (fun a j h => by unfold wHm; omega) (Nat.le_refl _) (Nat.le_refl _)
        obtain ⟨hs2, -⟩ := Hs_q f2 hN1 (fun a j h hw => by omega) hs1
        have gs2 : gmF s2 = gmF st := (gm_eq f2 hN1 (fun j hw => by omega)).trans gs1
        refine m_mixgo hN2 hs2 hp hV v2 (fun a1 v a2 s' f' => k1 a1 v (by rw [← gs2]; exact a2) s' (Fr_tr (x := 0) (y := 0) F2 f')) (fun a1 a2 s' f' => k2 a1 (by rw [← gs2]; exact a2) s' (Fr_tr (x := 0) (y := 0) F2 f')) (fun a1 s' f' => k3 a1 s' (Fr_tr (x := 0) (y := 0) F2 f'))
      refine x_mixgo hN hs h138 hp hV (by rw [e0]) e1 e2 (fun hsp v hm s' F => ?_) (fun hsp hm s' F => ?_) (fun hsp s' F Ψ => ?_)
      · have hNs : 201 ≤ sN s' := Nat.le_trans hN F.1
        obtain ⟨hs', g'⟩ := Hs_W (k := 0) (Fr_mo F (fun _ _ h => Or.inl h) (Nat.le_refl _) (Nat.le_refl _)) hN wHX_n hs
        refine run s' hNs hs' g' _ (fun _ v' hv' s3 f3 => ?_) (fun _ h => by rw [hm] at h; cases h) (fun h => by rw [hsp] at h; cases h)
        rw [hm] at hv'
        cases hv'
        exact ⟨fun _ => hK' _ (Inv_q hI (Fr_tr (x := 0) (y := 0) (Fr_mo F wHX_Q (Nat.le_refl _) (Nat.le_refl _)) (Fr_mo f3 wHm_Q (Nat.le_refl _) (Nat.le_refl _))) (by omega) (by omega)), fun h => absurd rfl h⟩
      · refine bigL (M := fun s Ψ => w_X4_mix s (Int32.ofNat p) (Int32.ofNat a) p3 p4 p5 Ψ) hI hK' wHX_Q F (fun s2 f2 Φ h => ?_)
        obtain ⟨hs2, g2⟩ := Hs_W f2 hN wHX_n hs
        have hN2 : 201 ≤ sN s2 := Nat.le_trans hN f2.1
        exact run s2 hN2 hs2 g2 Φ (fun _ v' hv' => by rw [hm] at hv'; cases hv') (fun _ _ s3 f3 => m_errQL (k := 6) (by decide) (Fr_mo f3 wHm_Q (Nat.le_refl _) (Nat.le_refl _)) hN2 h) (fun h => by rw [hsp] at h; cases h)
      · refine needWL (c := false) (k := 3) (M := fun s Ψ => w_X4_mix s (Int32.ofNat p) (Int32.ofNat a) p3 p4 p5 Ψ) hI hK' (by decide) wHX_Q F (fun h => by cases h) (fun _ s2 f2 Φ h => ?_)
        obtain ⟨hs2, g2⟩ := Hs_W f2 hN wHX_n hs
        have hN2 : 201 ≤ sN s2 := Nat.le_trans hN f2.1
        exact run s2 hN2 hs2 g2 Φ (fun h => by rw [hsp] at h; cases h) (fun h => by rw [hsp] at h; cases h) (fun _ s3 f3 => m_errQL (k := 3) (by decide) (Fr_mo f3 wHm_Q (Nat.le_refl _) (Nat.le_refl _)) hN2 h)
    have put : ∀ s1 : St, ∀ s2, s2 = putI (putI (putI s1 197 0 (Int32.ofNat a)) 197 1 p3) 197 2 p4 → Fr (fun a j => a = 197 ∧ j < 3) 0 0 s1 s2 ∧ sI s2 197 0 = Int32.ofNat a ∧ sI s2 197 1 = p3 ∧ sI s2 197 2 = p4 := fun s1 s2 e => by
      rw [e]
      refine ⟨Fr_I (Fr_I (Fr_I Fr_rf (Or.inl ⟨rfl, by omega⟩)) (Or.inl ⟨rfl, by omega⟩)) (Or.inl ⟨rfl, by omega⟩), ?_, ?_, ?_⟩
      · rw [gI_pI, if_neg (by omega), gI_pI, if_neg (by omega), gI_pI, if_pos ⟨rfl, rfl⟩]
      · rw [gI_pI, if_neg (by omega), gI_pI, if_pos ⟨rfl, rfl⟩]
      · rw [gI_pI, if_pos ⟨rfl, rfl⟩]
    rcases t3 with rfl | ⟨i, hi, rfl⟩ <;> rcases t4 with rfl | ⟨j, hj, rfl⟩
    · -- one point
      unfold w_X0_mix_b75 w_X0_mix_b88 w_X0_mix_b93 w_X0_mix_b120 w_X0_mix_b132 w_X0_mix_b136
      refine ⟨fun h => absurd rfl h, fun _ => ⟨fun h => absurd rfl h, fun _ => ⟨fun h => absurd rfl h, fun _ => need_1 ?_⟩⟩⟩
      have z1 : (Int32.ofNat K' < (1 : Int32)) = (K' < 1) := lt_of (n := 1) (by omega) (by omega)
      rw [q9, z1]
      refine ⟨fun h => absurd h (by omega), fun _ => ⟨fun _ => ⟨fun _ => ?_, fun h => absurd (by decide) h⟩, fun h => absurd (by decide) h⟩⟩
      refine good 1 (a, 0, 0) (Or.inl ⟨rfl, ha, rfl, rfl⟩) rfl (fun h => absurd h (by omega)) (fun h => absurd h (by omega)) (fun s1 hN1 hs1 gs1 Φ h => Pm s1 hN1 hs1 gs1 Φ ?_)
      rw [neg1]
      refine ⟨fun _ => ?_, fun h => absurd trivial h⟩
      unfold w_X4_mix_b67 w_X4_mix_b92 w_X4_mix_b97
      rw [neg1]
      refine ⟨fun _ => ?_, fun h => absurd trivial h⟩
      rintro _ rfl _ rfl s44 e44
      rw [negl]
      obtain ⟨F, v0, -, -⟩ := put s1 s44 e44
      exact ⟨fun h => h.elim, fun _ => h s44 F (fun k hk => by rw [show k = 0 by omega]; exact v0)⟩
    · -- the second is missing
      unfold w_X0_mix_b75 w_X0_mix_b93
      refine ⟨fun h => absurd rfl h, fun _ => ⟨fun h => absurd rfl h, fun _ => ⟨fun _ => ?_, fun h => (by rw [ne1 j (by omega)] at h; exact h.elim)⟩⟩⟩
      refine bad (fun s1 hN1 hs1 gs1 Φ h => Pm s1 hN1 hs1 gs1 Φ ?_) _
      rw [neg1]
      refine ⟨fun _ => ?_, fun h => absurd trivial h⟩
      unfold w_X4_mix_b67
      rw [pos0 j (by omega), neg1]
      exact ⟨fun h => h.elim, fun _ => ⟨fun _ => h, fun h => absurd trivial h⟩⟩
    · -- two points
      have z2 : (Int32.ofNat K' < (2 : Int32)) = (K' < 2) := lt_of (n := 2) (by omega) (by omega)
      unfold w_X0_mix_b75 w_X0_mix_b88 w_X0_mix_b93 w_X0_mix_b120 w_X0_mix_b132 w_X0_mix_b136
      refine ⟨fun _ => ⟨fun h => absurd rfl h, fun _ => ⟨fun _ => need_1 ?_, fun h => (by rw [ne1 i (by omega)] at h; exact h.elim)⟩⟩, fun h => (by rw [ne1 i (by omega)] at h; exact h.elim)⟩
      rw [q9, z2, le_of (by omega) (by omega)]
      refine ⟨fun h => absurd h (by omega), fun _ => ⟨fun h => absurd h (by decide), fun _ => ⟨fun hle => ?_, fun hle => ⟨fun _ => ?_, fun h => absurd (by decide) h⟩⟩⟩⟩
      · unfold w_X0_mix_b137
        refine bad (fun s1 hN1 hs1 gs1 Φ h => Pm s1 hN1 hs1 gs1 Φ ?_) _
        rw [pos0 i (by omega), le_of (by omega) (by omega)]
        exact ⟨fun h => h.elim, fun _ => ⟨fun _ => h, fun h => absurd hle h⟩⟩
      · refine good 2 (a, i, 0) (Or.inr (Or.inl ⟨rfl, by show a < i; omega, hi, rfl⟩)) rfl (fun _ => rfl) (fun h => absurd h (by omega)) (fun s1 hN1 hs1 gs1 Φ h => Pm s1 hN1 hs1 gs1 Φ ?_)
        rw [pos0 i (by omega), le_of (by omega) (by omega)]
        refine ⟨fun h => h.elim, fun _ => ⟨fun h => absurd h hle, fun _ => ?_⟩⟩
        unfold w_X4_mix_b67 w_X4_mix_b92 w_X4_mix_b97
        rw [neg1]
        refine ⟨fun _ => ?_, fun h => absurd trivial h⟩
        rintro _ rfl _ rfl s44 e44
        rw [negl, posl i (by omega)]
        obtain ⟨F, v0, v1, -⟩ := put s1 s44 e44
        refine ⟨fun _ => ⟨fun h => h.elim, fun _ => h s44 F (fun k hk => ?_)⟩, fun h => absurd trivial h⟩
        rcases (by omega : k = 0 ∨ k = 1) with rfl | rfl
        · exact v0
        · exact v1
    · -- three points
      have z3 : (Int32.ofNat K' < (3 : Int32)) = (K' < 3) := lt_of (n := 3) (by omega) (by omega)
      unfold w_X0_mix_b75 w_X0_mix_b88 w_X0_mix_b93 w_X0_mix_b120 w_X0_mix_b132 w_X0_mix_b136
      refine ⟨fun _ => ⟨fun _ => ⟨fun _ => need_1 ?_, fun h => (by rw [ne1 i (by omega)] at h; exact h.elim)⟩, fun h => (by rw [ne1 j (by omega)] at h; exact h.elim)⟩, fun h => (by rw [ne1 i (by omega)] at h; exact h.elim)⟩
      rw [q9, z3, le_of (by omega) (by omega), le_of (by omega) (by omega)]
      have nk : ∀ s1, Hs s1 K' G M N → (sI s1 177 0 = 3) = (K' = 3) := fun s1 hs1 => by rw [hs1.2.2.2.2.1]; exact ofE (n := 3) (by omega) (by omega)
      have bad3 : ¬ (a < i ∧ i < j ∧ K' = 3) → ∀ Ψ : St → Prop, w_X0_need st 0 3 Ψ (fun s a9 => w_X0_answersFar s a9 (fun s r => w_X4_mix s (Int32.ofNat p) (Int32.ofNat a) (Int32.ofNat i) (Int32.ofNat j) p5 (fun s' r' => (r = r' → K s') ∧ (¬ r = r' → E s')))) := fun hb => bad (fun s1 hN1 hs1 gs1 Φ h => Pm s1 hN1 hs1 gs1 Φ (by
        rw [pos0 i (by omega), le_of (by omega) (by omega)]
        refine ⟨fun h => h.elim, fun _ => ⟨fun _ => h, fun hle => ?_⟩⟩
        unfold w_X4_mix_b67
        rw [pos0 j (by omega), pos0 i (by omega), le_of (by omega) (by omega), ne_eq, nk s1 hs1]
        exact ⟨fun h => h.elim, fun _ => ⟨fun h => h.elim, fun _ => ⟨fun _ => h, fun hle2 => ⟨fun _ => h, fun k3 => absurd ⟨by omega, by omega, k3⟩ hb⟩⟩⟩⟩))
      refine ⟨fun hk => ?_, fun hk => ⟨fun h => absurd h (by decide), fun _ => ⟨fun hle => ?_, fun hle => ⟨fun h => absurd h (by decide), fun _ => ⟨fun hle2 => ?_, fun hle2 => ?_⟩⟩⟩⟩⟩
      · unfold w_X0_mix_b137; exact bad3 (by omega) _
      · unfold w_X0_mix_b137; exact bad3 (by omega) _
      · unfold w_X0_mix_b137; exact bad3 (by omega) _
      · refine good 3 (a, i, j) (Or.inr (Or.inr ⟨rfl, by show a < i; omega, by show i < j; omega, hj⟩)) rfl (fun _ => rfl) (fun _ => rfl) (fun s1 hN1 hs1 gs1 Φ h => Pm s1 hN1 hs1 gs1 Φ ?_)
        rw [pos0 i (by omega), le_of (by omega) (by omega)]
        refine ⟨fun h => h.elim, fun _ => ⟨fun h => absurd h hle, fun _ => ?_⟩⟩
        unfold w_X4_mix_b67 w_X4_mix_b92 w_X4_mix_b97
        rw [pos0 j (by omega), pos0 i (by omega), le_of (by omega) (by omega), ne_eq, nk s1 hs1]
        refine ⟨fun h => h.elim, fun _ => ⟨fun h => h.elim, fun _ => ⟨fun h => absurd h hle2, fun _ => ⟨fun h => absurd (show K' = 3 by omega) h, fun _ => ?_⟩⟩⟩⟩
        rintro _ rfl _ rfl s44 e44
        rw [posl i (by omega), posl j (by omega)]
        obtain ⟨F, v0, v1, v2⟩ := put s1 s44 e44
        refine ⟨fun _ => ⟨fun _ => h s44 F (fun k hk => ?_), fun h => absurd trivial h⟩, fun h => absurd trivial h⟩
        rcases (by omega : k = 0 ∨ k = 1 ∨ k = 2) with rfl | rfl | rfl
        · exact v0
        · exact v1
        · exact v2
  · show w_X4_mix s2 _ _ _ _ _ _
    exact m_mix_in q1 q2 ((q_at f2 hN (by omega) (nQ_177 (by omega)) (by omega)).1.trans q5) ((q_at f2 hN (by omega) (nQ_177 (by omega)) (by omega)).1.trans q6) (fun h9 => by rw [hc] at h9; cases h9) (fun _ => h)
