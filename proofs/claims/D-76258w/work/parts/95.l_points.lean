/-! PLAIN LAW, 62: points -/
set_option maxRecDepth 100000
theorem bit_sh : ∀ i, i < 15 → (1 : Int32) <<< (Int32.ofNat i &&& 31) = Int32.ofNat (2 ^ i) := by decide
/-- the mask of what is marked -/
def mkM (fl : Nat → Bool) : Nat → Nat
  | 0 => 0
  | i + 1 => mkM fl i + (if fl i = true then 2 ^ i else 0)
def ctN (fl : Nat → Bool) : Nat → Nat
  | 0 => 0
  | i + 1 => ctN fl i + (if fl i = true then 1 else 0)
theorem mk_lt {fl : Nat → Bool} : ∀ i, mkM fl i < 2 ^ i
  | 0 => Nat.one_pos
  | i + 1 => by
    have := mk_lt (fl := fl) i
    rw [mkM, Nat.pow_succ]
    split <;> omega
theorem mk_bit {fl : Nat → Bool} : ∀ i q, (mkM fl i).testBit q = (decide (q < i) && fl q)
  | 0, q => by rw [decide_eq_false (by omega), Bool.false_and]; exact Nat.zero_testBit q
  | i + 1, q => by
    have ih := mk_bit (fl := fl) i q
    have hl := mk_lt (fl := fl) i
    rw [mkM]
    by_cases h : fl i = true
    · rw [if_pos h, Nat.add_comm]
      rcases Nat.lt_trichotomy q i with g | g | g
      · rw [Nat.testBit_two_pow_add_gt g, ih, decide_eq_true g, decide_eq_true (show q < i + 1 by omega)]
      · subst g
        rw [Nat.testBit_two_pow_add_eq, Nat.testBit_lt_two_pow hl, decide_eq_true (show q < q + 1 by omega), h]; rfl
      · have h2 : 2 ^ i + mkM fl i < 2 ^ q := by
          have : 2 ^ (i + 1) ≤ 2 ^ q := Nat.pow_le_pow_right (by decide) g
          rw [Nat.pow_succ] at this; omega
        rw [Nat.testBit_lt_two_pow h2, decide_eq_false (by omega), Bool.false_and]
    · rw [if_neg h, Nat.add_zero, ih]
      by_cases g : q = i
      · subst g
        rw [decide_eq_false (by omega), Bool.false_and]
        cases hf : fl q with
        | true => exact absurd hf h
        | false => rw [Bool.and_false]
      · congr 1
        by_cases g2 : q < i
        · rw [decide_eq_true g2, decide_eq_true (by omega)]
        · rw [decide_eq_false g2, decide_eq_false (by omega)]
theorem pc_ct {fl : Nat → Bool} {P : Nat} : ∀ i, pcM (mkM fl P) i = ctN (fun q => decide (q < P) && fl q) i
  | 0 => rfl
  | i + 1 => by rw [pcM, ctN, pc_ct i, mk_bit]
theorem ct_cg {f g : Nat → Bool} : ∀ i, (∀ q, q < i → f q = g q) → ctN f i = ctN g i
  | 0, _ => rfl
  | i + 1, h => by rw [ctN, ctN, ct_cg i (fun q hq => h q (by omega)), h i (by omega)]
theorem ct_pad {fl : Nat → Bool} {P : Nat} : ∀ d, ctN (fun q => decide (q < P) && fl q) (P + d) = ctN fl P
  | 0 => ct_cg P (fun q hq => by show (decide (q < P) && fl q) = fl q; rw [decide_eq_true hq, Bool.true_and])
  | d + 1 => by
    rw [show P + (d + 1) = (P + d) + 1 by omega, ctN, ct_pad d, decide_eq_false (show ¬ P + d < P by omega)]; rfl
theorem ct_lt {fl : Nat → Bool} : ∀ i, ctN fl i ≤ i
  | 0 => Nat.le_refl _
  | i + 1 => by have := ct_lt (fl := fl) i; rw [ctN]; split <;> omega
theorem mk_z {fl : Nat → Bool} {P : Nat} (h : ∀ q, q < P → fl q = false) : mkM fl P = 0 := by
  apply Nat.eq_of_testBit_eq
  intro i
  rw [mk_bit, Nat.zero_testBit]
  by_cases e : i < P
  · rw [h i e, Bool.and_false]
  · rw [decide_eq_false e, Bool.false_and]
theorem mk_nz {fl : Nat → Bool} {P q : Nat} (hq : q < P) (h : fl q = true) : mkM fl P ≠ 0 := fun e => by
  have := mk_bit (fl := fl) P q
  rw [e, Nat.zero_testBit, decide_eq_true hq, h] at this
  cases this
/-- what is told of a point: none = a number grew too great -/
def pfB (K G M N : Nat) (f : Nat → Nat → Nat → Int32) (al : Bool) (q : Nat) (b : Bst) : Option Bool := if al = true then some (decide (b.1 = 1)) else (lessR b.2.2 (uR K G M N q f)).map (fun d => decide (0 < d.1.toInt))
def pfF (K G M N : Nat) (f : Nat → Nat → Nat → Int32) (al : Bool) (q : Nat) : Option (Option Bst) → Option Bool
  | none => none
  | some none => none
  | some (some b) => pfB K G M N f al q b
theorem pf_a {K G M N : Nat} {f : Nat → Nat → Nat → Int32} {al : Bool} {q : Nat} {b : Bst} (h : al = true) : pfF K G M N f al q (some (some b)) = some (decide (b.1 = 1)) := by
  show pfB K G M N f al q b = _
  unfold pfB; rw [if_pos h]
theorem pf_n {K G M N : Nat} {f : Nat → Nat → Nat → Int32} {al : Bool} {q : Nat} {b : Bst} (h : al = false) (hl : lessR b.2.2 (uR K G M N q f) = none) : pfF K G M N f al q (some (some b)) = none := by
  show pfB K G M N f al q b = _
  unfold pfB; rw [if_neg (by rw [h]; decide), hl]; rfl
theorem pf_d {K G M N : Nat} {f : Nat → Nat → Nat → Int32} {al : Bool} {q : Nat} {b : Bst} {d : Int64 × Int64} (h : al = false) (hl : lessR b.2.2 (uR K G M N q f) = some d) : pfF K G M N f al q (some (some b)) = some (decide (0 < d.1.toInt)) := by
  show pfB K G M N f al q b = _
  unfold pfB; rw [if_neg (by rw [h]; decide), hl]; rfl
/-- the first that is marked -/
def Fst (fl : Nat → Bool) (i : Nat) (x : Int32) : Prop := (∃ q, q < i ∧ fl q = true ∧ (∀ j, j < q → fl j = false) ∧ x = Int32.ofNat q) ∨ ((∀ q, q < i → fl q = false) ∧ x = -1)
theorem or_of {m i : Nat} (hi : i < 15) (hm : m < 2 ^ i) : Int32.ofNat m ||| Int32.ofNat (2 ^ i) = Int32.ofNat (m + 2 ^ i) := by
  have h2 : 2 ^ i ≤ 2 ^ 14 := Nat.pow_le_pow_right (by decide) (by omega)
  have e1 : m + 2 ^ i = m ||| 2 ^ i := by
    have := Nat.two_pow_add_eq_or_of_lt hm 1
    rw [Nat.mul_one] at this
    rw [Nat.add_comm, this, Nat.or_comm]
  rw [e1]
  apply Int32.toBitVec_inj.mp
  apply BitVec.eq_of_toNat_eq
  show ((BitVec.ofNat 32 m) ||| (BitVec.ofNat 32 (2 ^ i))).toNat = (BitVec.ofNat 32 (m ||| 2 ^ i)).toNat
  rw [BitVec.toNat_or, BitVec.toNat_ofNat, BitVec.toNat_ofNat, BitVec.toNat_ofNat, Nat.mod_eq_of_lt (by omega), Nat.mod_eq_of_lt (by omega), Nat.mod_eq_of_lt]
  rw [← e1]; omega
/-- the component marks points -/
theorem x_pointsBy {st : St} {K G M N : Nat} {al : Bool} {R : Nat → Option (Option Bst)} {Φ : St → Int32 → Prop} {Φw : St → Nat → Prop} {Φa : St → Prop} (hN : 201 ≤ sN st) (hs : Hs st K G M N) (h138 : pR st 138 = (0, 1)) (hR : ∀ q, HuR K G M N q (gmF st) K 1 (some none) (R q)) (h1 : (∀ q, q < ptN K G → pfF K G M N (gmF st) al q (R q) ≠ none) → ∀ s', Fr wHX 0 0 st s' → Φ s' (Int32.ofNat (mkM (fun q => (pfF K G M N (gmF st) al q (R q)).getD false) (ptN K G)))) (h2 : (∃ q, q < ptN K G ∧ pfF K G M N (gmF st) al q (R q) = none) → ∀ s', Fr wHX 0 0 st s' → jkA s' Φa) : w_X0_pointsBy st (ib (!al)) Φ Φw Φa := by
  have q1 := hs.1
  have q2 := hs.2.1
  have hp15 := pt15 q1 q2
  generalize hfl : (fun q => (pfF K G M N (gmF st) al q (R q)).getD false) = fl at h1
  have hfl' : ∀ q, (pfF K G M N (gmF st) al q (R q)).getD false = fl q := fun q => congrFun hfl q
  unfold w_X0_pointsBy
  refine x_allWorths hN hs (fun s0 F0 v0 => ?_)
  have X0 := x_aw hN hs h138 F0 v0
  have hN0 : 201 ≤ sN s0 := Nat.le_trans hN F0.1
  have F0' : Fr wHX 0 0 st s0 := Fr_mo F0 (fun _ _ h => Or.inl h) (Nat.le_refl _) (Nat.le_refl _)
  have mo : ∀ s', Fr wHx 0 0 s0 s' → Fr wHX 0 0 st s' := fun s' f => Fr_tr (x := 0) (y := 0) F0' (Fr_mo f (fun _ _ h => Or.inr h) (Nat.le_refl _) (Nat.le_refl _))
  refine loop_up (α := St × Int32 × Int32) (L := fun m a => w_X0_pointsBy_l8 Φ Φw Φa (fun (s48 : St) (x2 : Int32) => w_X0_pointsBy_b87 Φ Φw Φa s48 x2) m a.1 (ib (!al)) a.2.1 a.2.2) (ptN K G) (fun i a => a.2.2 = Int32.ofNat i ∧ Xh s0 a.1 K G M N (gmF st) ∧ (∀ q, q < i → pfF K G M N (gmF st) al q (R q) ≠ none) ∧ a.2.1 = Int32.ofNat (mkM fl i)) (fun m i a hi hA k9 => ?_) (fun m a hA => ?_) gFU 0 (s0, 0, 0) (by omega) (gFU_big (by omega)) ⟨rfl, X0, fun q hq => absurd hq (by omega), rfl⟩
  · obtain ⟨s, x2, x3⟩ := a
    obtain ⟨e, X, hsome, hmk⟩ := hA
    dsimp only at e X hmk
    subst e
    subst hmk
    show w_X0_pointsBy_l8 Φ Φw Φa _ (m + 1) s _ _ _
    have hlt := mk_lt (fl := fl) i
    rw [w_X0_pointsBy_l8, X.2.1.2.2.2.2.2.2.2.2.2.2.2.2.1, le_of (by omega) (by omega)]
    refine ⟨fun h => absurd h (by omega), fun _ => ?_⟩
    have dead : pfF K G M N (gmF st) al i (R i) = none → ∀ s', Fr wHx 0 0 s0 s' → jkA s' Φa := fun h s' F' => h2 ⟨i, hi, h⟩ s' (mo s' F')
    have nxt : ∀ s' c, Xh s0 s' K G M N (gmF st) → pfF K G M N (gmF st) al i (R i) = some c → w_X0_pointsBy_b64 Φ Φw Φa (w_X0_pointsBy_l8 Φ Φw Φa (fun (s48 : St) (x2 : Int32) => w_X0_pointsBy_b87 Φ Φw Φa s48 x2) m) s' (ib (!al)) (Int32.ofNat (mkM fl i)) (Int32.ofNat i) (ib c) := fun s' c X' hc => by
      have ef : fl i = c := by rw [← hfl' i, hc]; rfl
      have some' : ∀ q, q < i + 1 → pfF K G M N (gmF st) al q (R q) ≠ none := fun q hq => by
        by_cases e : q = i
        · rw [e, hc]; exact fun h => by cases h
        · exact hsome q (by omega)
      unfold w_X0_pointsBy_b64 w_X0_pointsBy_b79
      rw [ib_z]
      refine ⟨fun h => ?_, fun h => ?_⟩
      · intro v23 e23
        have hk := k9 (s', v23, Int32.ofNat i + 1)
        dsimp only at hk
        refine hk ⟨succ_of i, X', some', ?_⟩
        rw [e23, mkM, ef, h, Int32.or_zero]; rfl
      · intro v23 e23
        have hk := k9 (s', v23, Int32.ofNat i + 1)
        dsimp only at hk
        refine hk ⟨succ_of i, X', some', ?_⟩
        have hct : c = true := by cases c with
          | true => rfl
          | false => exact absurd rfl h
        rw [e23, mkM, ef, hct, if_pos rfl, bit_sh i (by omega), or_of (by omega) hlt]
    refine x_hullOf hN0 X hi (hR i) (fun b hb s' X' B' => ?_) (fun hr s' F' => dead (by rw [hr]; rfl) s' F')
    obtain ⟨n1, n2, v23, v140, pb, -⟩ := B'
    rw [ib_z]
    have hX' := X'.2.2.2 i hi
    refine ⟨fun ha => ?_, fun ha => ?_⟩
    · have hal : al = true := by cases al with
        | true => rfl
        | false => cases ha
      have hpf : pfF K G M N (gmF st) al i (R i) = some (decide (b.1 = 1)) := by rw [hb]; exact pf_a hal
      have e1 : (sI s' 0 23 = 1) = (b.1 = 1) := by rw [v23]; exact ofE (n := 1) (by omega) (by omega)
      rw [ne_eq, e1]
      refine ⟨fun h => ?_, fun h => ?_⟩
      · have := nxt s' _ X' hpf; rw [decide_eq_false h] at this; exact this
      · have := nxt s' _ X' hpf; rw [decide_eq_true h] at this; exact this
    · have hal : al = false := by cases al with
        | true => exact absurd rfl ha
        | false => rfl
      rw [vp_of (by omega), nn_of (by omega)]
      refine ⟨by omega, ?_⟩
      refine s_X2_less (by rw [v140]; exact pb) (by rw [hX'.1]; exact hX'.2) (fun d hd => ?_) (fun hd => ?_)
      · rw [v140, hX'.1] at hd
        have hpf : pfF K G M N (gmF st) al i (R i) = some (decide (0 < d.1.toInt)) := by rw [hb]; exact pf_d hal hd
        have F9 : Fr (fun a j => a = 143 ∧ j < 2) 0 0 s' (putP s' 143 d) := Fr_P Fr_rf (fun j hj => ⟨rfl, hj⟩)
        have p9 : pR (putP s' 143 d) 143 = d := pR_pP
        generalize putP s' 143 d = s9 at F9 p9
        have X9 := Xh_st hN0 X' F9 (fun a j h => by unfold wHx; omega)
        refine isAb (fun h => ?_) (fun h => ?_)
        · rw [p9] at h
          have := nxt s9 _ X9 hpf; rw [decide_eq_true h] at this; exact this
        · rw [p9] at h
          have := nxt s9 _ X9 hpf; rw [decide_eq_false h] at this; exact this
      · rw [v140, hX'.1] at hd
        exact dead (by rw [hb]; exact pf_n hal hd) s' X'.1
  · obtain ⟨s, x2, x3⟩ := a
    obtain ⟨e, X, hsome, hmk⟩ := hA
    dsimp only at e X hmk
    subst e
    subst hmk
    show w_X0_pointsBy_l8 Φ Φw Φa _ (m + 1) s _ _ _
    rw [w_X0_pointsBy_l8, X.2.1.2.2.2.2.2.2.2.2.2.2.2.2.1]
    refine ⟨fun _ => ?_, fun h => absurd (Int32.le_refl _) h⟩
    unfold w_X0_pointsBy_b87
    exact h1 hsome s (mo s X.1)
/-- the reference counts points -/
theorem m_pointsBy {st : St} {K G M N t : Nat} {R : Nat → Option (Option Bst)} {Φ : St → Int32 → Prop} (hN : 201 ≤ sN st) (hs : Hs st K G M N) (ht : 1 ≤ t ∧ t ≤ 3) (hR : ∀ q, HuR K G M N q (gmF st) K 1 (some none) (R q)) (h1 : (∀ q, q < ptN K G → pfF K G M N (gmF st) (decide (t = 3)) q (R q) ≠ none) → ∀ s', Fr wHm 0 0 st s' → ((t = 1 ∨ t = 3) → Φ s' (Int32.ofNat (ctN (fun q => (pfF K G M N (gmF st) (decide (t = 3)) q (R q)).getD false) (ptN K G)))) ∧ (t = 2 → ∀ x, Fst (fun q => (pfF K G M N (gmF st) (decide (t = 3)) q (R q)).getD false) (ptN K G) x → ((0 ≤ x) → Φ s' x) ∧ ((¬ 0 ≤ x) → w_X4_finds s' 2 Φ))) (h2 : (∃ q, q < ptN K G ∧ pfF K G M N (gmF st) (decide (t = 3)) q (R q) = none) → ∀ s', Fr wHm 0 0 st s' → w_X4_finds s' 6 Φ) : w_X4_begins st (fun s12 => w_X4_points_2_l41 Φ (fun (s67 : St) (x1 : Int32) (x2 : Int32) (x3 : Int32) (x4 : Int32) => w_X4_points_2_b170 Φ s67 x1 x2 x3 x4) gFU s12 (Int32.ofNat t) 0 (-1) 0 0) := by
  have q1 := hs.1
  have q2 := hs.2.1
  have hp15 := pt15 q1 q2
  generalize hal : decide (t = 3) = al at h1 h2
  generalize hfl : (fun q => (pfF K G M N (gmF st) al q (R q)).getD false) = fl at h1
  have hfl' : ∀ q, (pfF K G M N (gmF st) al q (R q)).getD false = fl q := fun q => congrFun hfl q
  have t3 : ((3 : Int32) ≤ Int32.ofNat t) = (3 ≤ t) := le_of (m := 3) (by omega) (by omega)
  -- the end
  have big : (∃ q, q < ptN K G ∧ pfF K G M N (gmF st) al q (R q) = none) → ∀ s x2 x3 x4, Fr wHm 0 0 st s → sI s 175 20 = 1 → w_X4_points_2_b170 Φ s (Int32.ofNat t) x2 x3 x4 := fun hb s x2 x3 x4 F c => by
    unfold w_X4_points_2_b170
    rw [c]
    exact ⟨fun h => absurd h (by decide), fun _ => h2 hb s F⟩
  refine m_begins (fun s5 f5 c5 z5 => ?_)
  have F5 : Fr wHm 0 0 st s5 := Fr_mo f5 (fun a j h => Or.inl (by unfold wU wR; omega)) (Nat.le_refl _) (Nat.le_refl _)
  have X5 : Xm st s5 K G M N (gmF st) := Xm_st hN ⟨Fr_rf, hs, rfl⟩ F5 (fun _ _ h => h)
  refine loop_up (α := St × Int32 × Int32 × Int32 × Int32) (L := fun m a => w_X4_points_2_l41 Φ (fun (s67 : St) (x1 : Int32) (x2 : Int32) (x3 : Int32) (x4 : Int32) => w_X4_points_2_b170 Φ s67 x1 x2 x3 x4) m a.1 (Int32.ofNat t) a.2.1 a.2.2.1 a.2.2.2.1 a.2.2.2.2) (ptN K G) (fun i a => a.2.2.2.2 = Int32.ofNat i ∧ Xm st a.1 K G M N (gmF st) ∧ ((sI a.1 175 20 = 1 ∧ ∃ q, q < ptN K G ∧ pfF K G M N (gmF st) al q (R q) = none) ∨ (sI a.1 175 20 = 0 ∧ Mm a.1 K G M N (gmF st) ∧ (∀ q, q < i → pfF K G M N (gmF st) al q (R q) ≠ none) ∧ (t = 3 → a.2.2.2.1 = Int32.ofNat (ctN fl i)) ∧ (t ≠ 3 → a.2.1 = Int32.ofNat (ctN fl i) ∧ Fst fl i a.2.2.1)))) (fun m i a hi hA k9 => ?_) (fun m a hA => ?_) gFU 0 (s5, 0, -1, 0, 0) (by omega) (gFU_big (by omega)) ⟨rfl, X5, Or.inr ⟨c5, Mm_0 hp15.1 z5, fun q hq => absurd hq (by omega), fun _ => rfl, fun _ => ⟨rfl, Or.inr ⟨fun q hq => absurd hq (by omega), rfl⟩⟩⟩⟩
  · obtain ⟨s, x2, x3, x4, x5⟩ := a
    obtain ⟨e, X, hA⟩ := hA
    dsimp only at e X hA
    subst e
    show w_X4_points_2_l41 Φ _ (m + 1) s _ _ _ _ _
    have hNs : 201 ≤ sN s := Nat.le_trans hN X.1.1
    rw [w_X4_points_2_l41, pe_X4_points X.2.1.2.2.2.2.1 X.2.1.2.2.2.2.2.1 q1 q2, le_of (by omega) (by omega)]
    refine ⟨fun h => absurd h (by omega), fun _ => ?_⟩
    rcases hA with ⟨c, hb⟩ | ⟨c, hm, hsome, cA, cB⟩
    · rw [c]
      exact ⟨fun _ => big hb s _ _ _ X.1 c, fun h => absurd h (by decide)⟩
    · rw [c]
      refine ⟨fun h => absurd rfl h, fun _ => ?_⟩
      -- on, marked
      have nb : ∀ s' y2 y3 y4, Xm st s' K G M N (gmF st) → sI s' 175 20 = 1 → pfF K G M N (gmF st) al i (R i) = none → w_X4_points_2_b164 Φ (w_X4_points_2_l41 Φ (fun (s67 : St) (x1 : Int32) (x2 : Int32) (x3 : Int32) (x4 : Int32) => w_X4_points_2_b170 Φ s67 x1 x2 x3 x4) m) s' (Int32.ofNat t) y2 y3 y4 (Int32.ofNat i) := fun s' y2 y3 y4 X' c' hn => by
        unfold w_X4_points_2_b164
        have hk := k9 (s', y2, y3, y4, Int32.ofNat i + 1)
        dsimp only at hk
        exact hk ⟨succ_of i, X', Or.inl ⟨c', i, hi, hn⟩⟩
      have ng : ∀ s' y2 y3 y4 d, Xm st s' K G M N (gmF st) → sI s' 175 20 = 0 → Mm s' K G M N (gmF st) → pfF K G M N (gmF st) al i (R i) = some d → (t = 3 → y4 = x4 + ib d) → (t ≠ 3 → y2 = x2 + ib d ∧ y3 = (if 0 ≤ x3 then x3 else if d = true then Int32.ofNat i else x3)) → w_X4_points_2_b164 Φ (w_X4_points_2_l41 Φ (fun (s67 : St) (x1 : Int32) (x2 : Int32) (x3 : Int32) (x4 : Int32) => w_X4_points_2_b170 Φ s67 x1 x2 x3 x4) m) s' (Int32.ofNat t) y2 y3 y4 (Int32.ofNat i) := fun s' y2 y3 y4 d X' c' m' hd e4 e2 => by
        have ef : fl i = d := by rw [← hfl' i, hd]; rfl
        have ec : ∀ x, x = Int32.ofNat (ctN fl i) → x + ib d = Int32.ofNat (ctN fl (i + 1)) := fun x hx => by
          rw [hx, ctN, ef]
          cases d with
          | true => exact succ_of _
          | false => rw [if_neg (by decide)]; exact Int32.add_zero _
        unfold w_X4_points_2_b164
        have hk := k9 (s', y2, y3, y4, Int32.ofNat i + 1)
        dsimp only at hk
        refine hk ⟨succ_of i, X', Or.inr ⟨c', m', fun q hq => ?_, fun h3 => by rw [e4 h3]; exact ec _ (cA h3), fun h3 => ?_⟩⟩
        · by_cases e : q = i
          · rw [e, hd]; exact fun h => by cases h
          · exact hsome q (by omega)
        · obtain ⟨b1, b2⟩ := cB h3
          obtain ⟨e2, e3⟩ := e2 h3
          refine ⟨by rw [e2]; exact ec _ b1, ?_⟩
          rw [e3]
          rcases b2 with ⟨q, hq, w1, w2, w3⟩ | ⟨w1, w2⟩
          · have h00 : (0 : Int32) ≤ Int32.ofNat q := by
              rw [show ((0 : Int32) ≤ Int32.ofNat q) = (0 ≤ q) from le_of (m := 0) (by omega) (by omega)]; exact Nat.zero_le _
            rw [w3, if_pos h00]
            exact Or.inl ⟨q, by omega, w1, w2, rfl⟩
          · rw [w2, if_neg (by decide)]
            cases hdd : d with
            | true => exact Or.inl ⟨i, by omega, by rw [ef, hdd], w1, by rw [if_pos rfl]⟩
            | false =>
              refine Or.inr ⟨fun q hq => ?_, by rw [if_neg (by decide)]⟩
              by_cases e : q = i
              · rw [e, ef, hdd]
              · exact w1 q (by omega)
      refine m_hullOf hNs X.2.1 hi c (by rw [X.2.2]; exact hm) (by rw [X.2.2]; exact hR i) (fun s30 X30 B30 e18 e19 => ?_)
      rw [X.2.2] at X30 B30
      have Xs30 : Xm st s30 K G M N (gmF st) := ⟨Fr_tr (x := 0) (y := 0) X.1 X30.1, X30.2⟩
      have hN30 : 201 ≤ sN s30 := Nat.le_trans hNs X30.1.1
      cases hr : R i with
      | none =>
        rw [hr] at B30
        have c30 : sI s30 175 20 = 1 := B30
        have hn : pfF K G M N (gmF st) al i (R i) = none := by rw [hr]; rfl
        have go : ∀ z, w_X4_points_2_b78 Φ (w_X4_points_2_l41 Φ (fun (s67 : St) (x1 : Int32) (x2 : Int32) (x3 : Int32) (x4 : Int32) => w_X4_points_2_b170 Φ s67 x1 x2 x3 x4) m) s30 (Int32.ofNat t) x2 x3 (Int32.ofNat i) z x4 := fun z => by
          unfold w_X4_points_2_b78
          rintro _ rfl
          rw [c30]
          exact ⟨fun _ => nb s30 _ _ _ Xs30 c30 hn, fun _ => ⟨fun _ => nb s30 _ _ _ Xs30 c30 hn, fun h => absurd h (by decide)⟩⟩
        exact ⟨fun _ => go 0, fun _ => go 1⟩
      | some o =>
        cases ho : o with
        | none => have := hR i; rw [hr, ho] at this; exact absurd rfl (HuR_some q1 hi this)
        | some b =>
          rw [ho] at hr
          rw [hr] at B30
          obtain ⟨c30, m30, n1, n2, v41, v43, pb, -, -⟩ := B30
          have z18 : sL s30 175 18 = b.2.2.1 := by rw [e18, ← v43]
          have z19 : sL s30 175 19 = b.2.2.2 := by rw [e19, ← v43]
          have e41 : (sI s30 175 41 = 1) = (b.1 = 1) := by rw [v41]; exact ofE (n := 1) (by omega) (by omega)
          have main : w_X4_points_2_b78 Φ (w_X4_points_2_l41 Φ (fun (s67 : St) (x1 : Int32) (x2 : Int32) (x3 : Int32) (x4 : Int32) => w_X4_points_2_b170 Φ s67 x1 x2 x3 x4) m) s30 (Int32.ofNat t) x2 x3 (Int32.ofNat i) (ib (decide (b.1 = 1))) x4 := by
            unfold w_X4_points_2_b78
            rintro _ rfl
            rw [t3, c30]
            refine ⟨fun h3 => ?_, fun h3 => ⟨fun h => absurd rfl h, fun _ => ?_⟩⟩
            · have hal' : al = true := by rw [← hal]; exact decide_eq_true (by omega)
              have hpf : pfF K G M N (gmF st) al i (R i) = some (decide (b.1 = 1)) := by rw [hr]; exact pf_a hal'
              exact ng s30 _ _ _ _ Xs30 c30 m30 hpf (fun _ => rfl) (fun h => absurd (by omega) h)
            · have hal' : al = false := by rw [← hal]; exact decide_eq_false (by omega)
              intro v42 e42 v44 e44
              rw [z18] at e42
              rw [z19] at e44
              rw [e42, e44]
              refine m_u (c := false) hN30 X30.2.1 hi c30 (fun _ => by rw [X30.2.2]; exact m30) (fun s47 F47 c47 v47 => ?_)
              obtain ⟨w47, m47⟩ := v47 rfl
              rw [X30.2.2] at w47 m47
              have y18 : sL s47 175 18 = (uR K G M N i (gmF st)).1 := by rw [← w47]
              have y19 : sL s47 175 19 = (uR K G M N i (gmF st)).2 := by rw [← w47]
              rw [y18, y19]
              have pu : 0 < (uR K G M N i (gmF st)).2.toInt := uR_pos hs hi
              refine s_X4_less (c := false) (x := b.2.2) (y := uR K G M N i (gmF st)) c47 (fun _ => pb) (fun _ => pu) (fun s55 ⟨F55, c55, l55⟩ => ?_)
              have X55 : Xm st s55 K G M N (gmF st) := Xm_st hN (Xm_st hN Xs30 F47 (fun _ _ h => Or.inl h)) F55 (fun _ _ h => Or.inl (Or.inr (Or.inr (Or.inl h))))
              rw [Bool.false_or] at c55
              cases hl : lessR b.2.2 (uR K G M N i (gmF st)) with
              | none =>
                rw [hl] at c55
                have hpf : pfF K G M N (gmF st) al i (R i) = none := by rw [hr]; exact pf_n hal' hl
                have go : ∀ z, w_X4_points_2_b142 Φ (w_X4_points_2_l41 Φ (fun (s67 : St) (x1 : Int32) (x2 : Int32) (x3 : Int32) (x4 : Int32) => w_X4_points_2_b170 Φ s67 x1 x2 x3 x4) m) s55 (Int32.ofNat t) x3 (x4 + ib (decide (b.1 = 1))) (Int32.ofNat i) z x2 := fun z => by
                  unfold w_X4_points_2_b142 w_X4_points_2_b162 w_X4_points_2_b163
                  rintro _ rfl
                  exact ⟨fun _ => nb s55 _ _ _ X55 c55 hpf, fun _ => ⟨fun _ => nb s55 _ _ _ X55 c55 hpf, fun _ => nb s55 _ _ _ X55 c55 hpf⟩⟩
                exact ⟨fun _ => go 0, fun _ => go 1⟩
              | some d =>
                rw [hl] at c55
                have hpf : pfF K G M N (gmF st) al i (R i) = some (decide (0 < d.1.toInt)) := by rw [hr]; exact pf_d hal' hl
                have c55' : sI s55 175 20 = 0 := c55
                have d55 := l55 rfl d hl
                have d1 : sL s55 175 18 = d.1 := by rw [← d55]
                have m55 : Mm s55 K G M N (gmF st) := fun q hq => by
                  have old : ∀ a, 194 ≤ a → a ≤ 196 → Same s47 s55 a q := fun a h1 h2 => fr_at F55 (Or.inl (by have := F47.1; omega)) (by unfold wR; omega)
                  rw [(old 196 (by omega) (by omega)).1, (old 194 (by omega) (by omega)).2.1, (old 195 (by omega) (by omega)).2.1]; exact m47 q hq
                have le0 : (sL s55 175 18 ≤ 0) = ¬ (0 < d.1.toInt) := by
                  rw [d1, Int64.le_iff_toInt_le]
                  apply propext
                  show _ ≤ (0 : Int) ↔ _
                  omega
                rw [le0]
                refine ⟨fun h => ?_, fun h => ?_⟩
                · have hpf' : pfF K G M N (gmF st) al i (R i) = some false := by rw [hpf, decide_eq_false h]
                  unfold w_X4_points_2_b142 w_X4_points_2_b162 w_X4_points_2_b163
                  rintro _ rfl
                  rw [le0]
                  refine ⟨fun g => ng s55 _ _ _ false X55 c55' m55 hpf' (fun g3 => absurd (by omega) h3) (fun _ => ⟨rfl, by rw [if_pos g]⟩), fun g => ⟨fun _ => ng s55 _ _ _ false X55 c55' m55 hpf' (fun g3 => absurd (by omega) h3) (fun _ => ⟨rfl, by rw [if_neg g, if_neg (by decide)]⟩), fun h9 => absurd h h9⟩⟩
                · have h' : 0 < d.1.toInt := Classical.byContradiction h
                  have hpf' : pfF K G M N (gmF st) al i (R i) = some true := by rw [hpf, decide_eq_true h']
                  unfold w_X4_points_2_b142 w_X4_points_2_b162 w_X4_points_2_b163
                  rintro _ rfl
                  rw [le0]
                  refine ⟨fun g => ng s55 _ _ _ true X55 c55' m55 hpf' (fun g3 => absurd (by omega) h3) (fun _ => ⟨rfl, by rw [if_pos g]⟩), fun g => ⟨fun h9 => absurd h' h9, fun _ => ng s55 _ _ _ true X55 c55' m55 hpf' (fun g3 => absurd (by omega) h3) (fun _ => ⟨rfl, by rw [if_neg g, if_pos rfl]⟩)⟩⟩
          rw [ne_eq, e41]
          refine ⟨fun h => ?_, fun h => ?_⟩
          · rw [decide_eq_false h] at main; exact main
          · rw [decide_eq_true h] at main; exact main
  · obtain ⟨s, x2, x3, x4, x5⟩ := a
    obtain ⟨e, X, hA⟩ := hA
    dsimp only at e X hA
    subst e
    show w_X4_points_2_l41 Φ _ (m + 1) s _ _ _ _ _
    rw [w_X4_points_2_l41, pe_X4_points X.2.1.2.2.2.2.1 X.2.1.2.2.2.2.2.1 q1 q2]
    refine ⟨fun _ => ?_, fun h => absurd (Int32.le_refl _) h⟩
    rcases hA with ⟨c, hb⟩ | ⟨c, hm, hsome, cA, cB⟩
    · exact big hb s _ _ _ X.1 c
    · obtain ⟨k1, k2⟩ := h1 hsome s X.1
      have t1 : (Int32.ofNat t = 1) = (t = 1) := ofE (n := 1) (by omega) (by omega)
      have t3' : (Int32.ofNat t = 3) = (t = 3) := ofE (n := 3) (by omega) (by omega)
      unfold w_X4_points_2_b170
      rw [c, ne_eq, t1, ne_eq, t3']
      refine ⟨fun _ => ⟨fun a1 => ⟨fun a3 => k2 (by omega) x3 (cB a3).2, fun a3 => ?_⟩, fun a1 => ?_⟩, fun h => absurd rfl h⟩
      · rw [cA a3]; exact k1 (Or.inr a3)
      · rw [(cB (by omega)).1]; exact k1 (Or.inl a1)
theorem o_points {b : Nat} {st : St} {p1 : Int32} {K E : St → Prop} (hI : Inv (b + 1) st) (hK' : ∀ s, Inv b s → K s) : w_X0_points st p1 (fun s r => w_X4_points_2 s p1 (fun s' r' => (r = r' → K s') ∧ (¬ r = r' → E s'))) := by
  obtain ⟨hN, hc1, hc2⟩ := Rm1 hI
  obtain ⟨K', G, M, N, hs⟩ := Hs_of hI
  have hh := hs
  obtain ⟨q1, q2, q3, q4, q5, q6, q7, q8, q9, q10, q11, q12, q13, q14, q15, q16⟩ := hh
  have hp15 := pt15 q1 q2
  have h138 : pR st 138 = (0, 1) := by obtain ⟨a1, a2⟩ := iNt hI; unfold pR; rw [a1, a2]
  unfold w_X0_points
  rw [pe_X0_in]
  refine needI (M := fun s Ψ => w_X4_points_2 s p1 Ψ) hI hK' (by decide) (fun hc => ?_) (fun hc s2 f2 Φ h => ?_)
  · obtain ⟨t, g1, rfl⟩ := inB_nat (m := 3) (by omega) rfl hc
    have t0 : (Int32.ofNat t = 0) = (t = 0) := zN (by omega)
    have t3 : ((3 : Int32) ≤ Int32.ofNat t) = (3 ≤ t) := le_of (m := 3) (by omega) (by omega)
    have t2 : (Int32.ofNat t = 2) = (t = 2) := ofE (n := 2) (by omega) (by omega)
    rw [ne_eq, t0, t3]
    refine ⟨fun hne => ?_, fun he => ?_⟩
    · obtain ⟨R, hR⟩ := Classical.axiomOfChoice (fun q : Nat => HuR_ex (K := K') (G := G) (M := M) (N := N) (p := q) (f := gmF st) q1 q2 K' 1 (some none) (by omega) (by omega))
      -- the reference
      have hm : ∀ s, 201 ≤ sN s → Hs s K' G M N → gmF s = gmF st → ∀ Φ : St → Int32 → Prop, ((∀ q, q < ptN K' G → pfF K' G M N (gmF st) (decide (t = 3)) q (R q) ≠ none) → ∀ s', Fr wHm 0 0 s s' → ((t = 1 ∨ t = 3) → Φ s' (Int32.ofNat (ctN (fun q => (pfF K' G M N (gmF st) (decide (t = 3)) q (R q)).getD false) (ptN K' G)))) ∧ (t = 2 → ∀ x, Fst (fun q => (pfF K' G M N (gmF st) (decide (t = 3)) q (R q)).getD false) (ptN K' G) x → ((0 ≤ x) → Φ s' x) ∧ ((¬ 0 ≤ x) → w_X4_finds s' 2 Φ))) → ((∃ q, q < ptN K' G ∧ pfF K' G M N (gmF st) (decide (t = 3)) q (R q) = none) → ∀ s', Fr wHm 0 0 s s' → w_X4_finds s' 6 Φ) → w_X4_points_2 s (Int32.ofNat t) Φ := fun s hNs hss gs Φ k1 k2 => by
        unfold w_X4_points_2
        rw [pe_X4_isIn, hc, ib_nz, ib_z, ne_eq, t0]
        rw [← gs] at k1 k2
        exact ⟨fun _ => ⟨fun _ => m_pointsBy hNs hss (by omega) (by rw [gs]; exact hR) k1 k2, fun h => absurd h hne⟩, fun h => (by cases h)⟩
      have main : w_X0_points_b35 (fun s r => w_X4_points_2 s (Int32.ofNat t) (fun s' r' => (r = r' → K s') ∧ (¬ r = r' → E s'))) st (Int32.ofNat t) (ib (!(decide (t = 3)))) := by
        unfold w_X0_points_b35
        refine x_pointsBy hN hs h138 hR (fun hsome s' F => ?_) (fun hbad s' F => ?_)
        · have hNs : 201 ≤ sN s' := Nat.le_trans hN F.1
          obtain ⟨hs', g'⟩ := Hs_W (k := 0) (Fr_mo F (fun _ _ h => Or.inl h) (Nat.le_refl _) (Nat.le_refl _)) hN wHX_n hs
          have hm' := hm
          generalize hfl : (fun q => (pfF K' G M N (gmF st) (decide (t = 3)) q (R q)).getD false) = fl at hm hm' ⊢
          have hmk := mk_lt (fl := fl) (ptN K' G)
          have hmk2 : mkM fl (ptN K' G) < 32768 := Nat.lt_of_lt_of_le hmk (Nat.pow_le_pow_right (by decide) (show ptN K' G ≤ 15 by omega))
          obtain ⟨b1, b2⟩ := bcM_at hmk2
          have hct : pcM (mkM fl (ptN K' G)) 15 = ctN fl (ptN K' G) := by
            have := ct_pad (fl := fl) (P := ptN K' G) (15 - ptN K' G)
            rw [show ptN K' G + (15 - ptN K' G) = 15 by omega] at this
            rw [pc_ct, this]
          rw [hct] at b1
          have inv : ∀ s3, Fr wHm 0 0 s' s3 → Inv b s3 := fun s3 f3 => Inv_q hI (Fr_tr (x := 0) (y := 0) (Fr_mo F wHX_Q (Nat.le_refl _) (Nat.le_refl _)) (Fr_mo f3 wHm_Q (Nat.le_refl _) (Nat.le_refl _))) (by omega) (by omega)
          have fin48 : (t = 2 → mkM fl (ptN K' G) ≠ 0) → w_X0_points_b48 (fun s r => w_X4_points_2 s (Int32.ofNat t) (fun s' r' => (r = r' → K s') ∧ (¬ r = r' → E s'))) s' (Int32.ofNat t) (Int32.ofNat (mkM fl (ptN K' G))) := fun hnz => by
            unfold w_X0_points_b48 w_X0_points_b53
            refine need_1 ?_
            rw [ne_eq, t2]
            refine ⟨fun h2 => s_bcM ?_, fun h2 => s_ntz ?_⟩
            · rw [b1]
              refine hm s' hNs hs' g' _ (fun _ s3 f3 => ⟨fun _ => ⟨fun _ => hK' _ (inv s3 f3), fun h => absurd rfl h⟩, fun h => absurd h h2⟩) (fun ⟨q, hq, hn⟩ => absurd hn (hsome q hq))
            · rw [b2 (hnz h2)]
              refine hm s' hNs hs' g' _ (fun _ s3 f3 => ⟨fun h => absurd h2 (by omega), fun _ x hx => ?_⟩) (fun ⟨q, hq, hn⟩ => absurd hn (hsome q hq))
              rcases hx with ⟨q, hq, w1, w2, w3⟩ | ⟨w1, w2⟩
              · have hfz : fzN (mkM fl (ptN K' G)) 15 0 = q := fz_at (by rw [mk_bit, decide_eq_true hq, w1]; rfl) (fun j hj => by rw [mk_bit, w2 j hj, Bool.and_false]) 15 0 (by omega) (by omega)
                rw [hfz, w3]
                exact ⟨fun _ => ⟨fun _ => hK' _ (inv s3 f3), fun h => absurd rfl h⟩, fun h => absurd (by rw [show ((0 : Int32) ≤ Int32.ofNat q) = (0 ≤ q) from le_of (m := 0) (by omega) (by omega)]; omega) h⟩
              · exact absurd (mk_z w1) (hnz h2)
          have ez : (Int32.ofNat (mkM fl (ptN K' G)) = 0) = (mkM fl (ptN K' G) = 0) := zN (by omega)
          rw [ne_eq, t2, ez]
          refine ⟨fun h2 => fin48 (fun h => absurd h h2), fun h2 => ⟨fun hz => ?_, fun hz => fin48 (fun _ => hz)⟩⟩
          unfold w_X0_points_b53
          refine needWI (c := false) (k := 2) (M := fun s Ψ => w_X4_points_2 s (Int32.ofNat t) Ψ) hI hK' (by decide) wHX_Q F (fun h => by cases h) (fun _ s2 f2 Φ h => ?_)
          obtain ⟨hs2, g2⟩ := Hs_W f2 hN wHX_n hs
          have hN2 : 201 ≤ sN s2 := Nat.le_trans hN f2.1
          refine hm s2 hN2 hs2 g2 Φ (fun _ s3 f3 => ⟨fun h => absurd h2 (by omega), fun _ x hx => ?_⟩) (fun ⟨q, hq, hn⟩ => absurd hn (hsome q hq))
          rcases hx with ⟨q, hq, w1, w2, w3⟩ | ⟨w1, w2⟩
          · exact absurd hz (mk_nz hq w1)
          · rw [w2]
            exact ⟨fun h => absurd h (by decide), fun _ => m_errQ (k := 2) (by decide) (Fr_mo f3 wHm_Q (Nat.le_refl _) (Nat.le_refl _)) hN2 h⟩
        · refine bigI (M := fun s Ψ => w_X4_points_2 s (Int32.ofNat t) Ψ) hI hK' wHX_Q F (fun s2 f2 Φ h => ?_)
          obtain ⟨hs2, g2⟩ := Hs_W f2 hN wHX_n hs
          have hN2 : 201 ≤ sN s2 := Nat.le_trans hN f2.1
          obtain ⟨q, hq, hn⟩ := hbad
          exact hm s2 hN2 hs2 g2 Φ (fun hsome => absurd hn (hsome q hq)) (fun _ s3 f3 => m_errQ (k := 6) (by decide) (Fr_mo f3 wHm_Q (Nat.le_refl _) (Nat.le_refl _)) hN2 h)
      refine ⟨fun h => ?_, fun h => ?_⟩
      · rw [decide_eq_true (show t = 3 by omega)] at main; exact main
      · rw [decide_eq_false (show ¬ t = 3 by omega)] at main; exact main
    · rw [q13]
      unfold w_X4_points_2
      dsimp only
      rw [pe_X4_isIn, hc, ib_nz, ib_z, ne_eq, t0, pe_X4_points q5 q6 q1 q2]
      exact ⟨fun _ => ⟨fun h => absurd he h, fun _ => ⟨fun _ => hK' _ (Inv_q hI (Fr_rf) (by omega) (by omega)), fun h => absurd rfl h⟩⟩, fun h => (by cases h)⟩
  · show w_X4_points_2 s2 _ _
    unfold w_X4_points_2
    rw [pe_X4_isIn, hc, ib_nz, ib_z]
    exact ⟨fun h => (by cases h), fun _ => h⟩
