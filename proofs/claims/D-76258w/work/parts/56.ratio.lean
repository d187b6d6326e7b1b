/-! PLAIN LAW, 17: fractions on both sides -/
set_option maxRecDepth 100000
def lowR (u w : Int64) : Int64 × Int64 := (u / gcd64 u w, w / gcd64 u w)
def mulO (a b : Int64) : Option Int64 := if fit (a.toInt * b.toInt) then some (a * b) else none
def addO (a b : Int64) : Option Int64 := if fit (a.toInt + b.toInt) then some (a + b) else none
def subO (a b : Int64) : Option Int64 := if fit (a.toInt - b.toInt) then some (a - b) else none
def negO (a : Int64) : Option Int64 := if fit (-a.toInt) then some (-a) else none
/-- in lowest terms, above 0 below the line -/
def isR (u w : Int64) : Option (Int64 × Int64) := if 0 ≤ w.toInt then some (lowR u w) else (negO u).bind fun u' => (negO w).bind fun w' => some (lowR u' w')
def addR (x y : Int64 × Int64) : Option (Int64 × Int64) := (mulO x.1 y.2).bind fun p => (mulO y.1 x.2).bind fun q => (addO p q).bind fun s => (mulO x.2 y.2).bind fun w => isR s w
def lessR (x y : Int64 × Int64) : Option (Int64 × Int64) := (mulO x.1 y.2).bind fun p => (mulO y.1 x.2).bind fun q => (subO p q).bind fun s => (mulO x.2 y.2).bind fun w => isR s w
def timesR (x y : Int64 × Int64) : Option (Int64 × Int64) := (mulO x.1 y.1).bind fun p => (mulO x.2 y.2).bind fun w => isR p w
def byR (x y : Int64 × Int64) : Option (Int64 × Int64) := (mulO x.1 y.2).bind fun p => (mulO x.2 y.1).bind fun w => isR p w
theorem mulO_t {a b : Int64} (h : fit (a.toInt * b.toInt)) : mulO a b = some (a * b) := if_pos h
theorem mulO_f {a b : Int64} (h : ¬ fit (a.toInt * b.toInt)) : mulO a b = none := if_neg h
theorem addO_t {a b : Int64} (h : fit (a.toInt + b.toInt)) : addO a b = some (a + b) := if_pos h
theorem addO_f {a b : Int64} (h : ¬ fit (a.toInt + b.toInt)) : addO a b = none := if_neg h
theorem subO_t {a b : Int64} (h : fit (a.toInt - b.toInt)) : subO a b = some (a - b) := if_pos h
theorem subO_f {a b : Int64} (h : ¬ fit (a.toInt - b.toInt)) : subO a b = none := if_neg h
theorem negO_t {a : Int64} (h : fit (-a.toInt)) : negO a = some (-a) := if_pos h
theorem negO_f {a : Int64} (h : ¬ fit (-a.toInt)) : negO a = none := if_neg h
theorem bd_s {α β : Type} {a : α} {f : α → Option β} : (some a).bind f = f a := rfl
theorem bd_n {α β : Type} {f : α → Option β} : (none : Option α).bind f = none := rfl
def pR (st : St) (a : Nat) : Int64 × Int64 := (sL st a 0, sL st a 1)
/-- a fraction is laid -/
def putP (st : St) (a : Nat) (v : Int64 × Int64) : St := putL (putL st a 0 v.1) a 1 v.2
theorem fit_nz {a b : Int64} (ha : 0 < a.toInt) (hb : 0 < b.toInt) (h : fit (a.toInt * b.toInt)) : 0 < (a * b).toInt := by
  rw [tmul, bm_fit h]; exact Int.mul_pos ha hb
theorem gcd_nz {u w : Int64} (h : w.toInt ≠ 0) : gcd64 u w ≠ 0 := by
  intro h0
  have h1 : Nat.gcd u.toInt.natAbs w.toInt.natAbs ≤ w.toInt.natAbs := Nat.gcd_le_right _ (by omega)
  have h2 : 0 < Nat.gcd u.toInt.natAbs w.toInt.natAbs := Nat.gcd_pos_of_pos_right _ (by omega)
  have hb := lfit w
  unfold fit at hb
  rw [eq64z] at h0
  unfold gcd64 at h0
  rw [ti_ofI, bm_cases _ (by omega) (by omega)] at h0
  split at h0
  · omega
  · split at h0 <;> omega
theorem s_X2_is {st : St} {o : Nat} {u w : Int64} {Φ : St → Nat → Prop} {Φa : St → Prop} (hw : w.toInt ≠ 0) (h1 : ∀ v, isR u w = some v → Φ (putP st o v) o) (h2 : isR u w = none → jkA st Φa) : w_X2_is st o u w Φ Φa := by
  have h30 : ∀ a b : Int64, b.toInt ≠ 0 → (Φ (putP st o (lowR a b)) o) → w_X2_is_b30 Φ Φa st o b a → w_X2_is_b30 Φ Φa st o b a := fun _ _ _ _ h => h
  have g30 : ∀ a b : Int64, b.toInt ≠ 0 → (Φ (putP st o (lowR a b)) o) → w_X2_is_b30 Φ Φa st o a b := fun a b hb h => by
    unfold w_X2_is_b30
    refine s_div ⟨gcd_nz hb, ?_⟩
    rintro _ rfl _ rfl
    exact h
  unfold w_X2_is
  rw [ge064]
  refine ⟨fun h0 => ?_, fun h0 => ?_⟩
  · unfold w_X2_is_b14
    rw [ge064]
    exact ⟨fun _ => g30 _ _ hw (h1 _ (by unfold isR; rw [if_pos h0])), fun h => absurd h0 h⟩
  · unfold isR negO at h1 h2
    rw [if_neg h0] at h1 h2
    refine s_negExact (fun hf => ?_) (fun hf => h2 (by rw [if_neg hf]; rfl))
    rw [if_pos hf] at h1 h2
    unfold w_X2_is_b14
    rw [ge064]
    refine ⟨fun h => absurd h h0, fun _ => s_negExact (fun hf2 => ?_) (fun hf2 => h2 (by rw [if_neg hf2]; rfl))⟩
    refine g30 _ _ ?_ (h1 _ (by rw [if_pos hf2]; rfl))
    rw [tneg, bm_fit hf2]; omega
theorem s_X2_add {st : St} {o p q : Nat} {Φ : St → Nat → Prop} {Φa : St → Prop} (hp : 0 < (pR st p).2.toInt) (hq : 0 < (pR st q).2.toInt) (h1 : ∀ v, addR (pR st p) (pR st q) = some v → Φ (putP st o v) o) (h2 : addR (pR st p) (pR st q) = none → jkA st Φa) : w_X2_add st o p q Φ Φa := by
  unfold w_X2_add
  unfold addR mulO addO pR at h1 h2
  unfold pR at hp hq
  dsimp only at h1 h2 hp hq
  refine s_mulExact (fun f1 => ?_) (fun f1 => h2 (by rw [if_neg f1]; rfl))
  rw [if_pos f1] at h1 h2
  refine s_mulExact (fun f2 => ?_) (fun f2 => h2 (by rw [if_neg f2]; rfl))
  rw [if_pos f2] at h1 h2
  refine s_addExact (fun f3 => ?_) (fun f3 => h2 (by dsimp only [Option.bind]; rw [if_neg f3]))
  dsimp only [Option.bind] at h1 h2
  rw [if_pos f3] at h1 h2
  refine s_mulExact (fun f4 => ?_) (fun f4 => h2 (by dsimp only; rw [if_neg f4]))
  dsimp only at h1 h2
  rw [if_pos f4] at h1 h2
  exact s_X2_is (by have := fit_nz hp hq f4; omega) h1 h2
theorem s_X2_less {st : St} {o p q : Nat} {Φ : St → Nat → Prop} {Φa : St → Prop} (hp : 0 < (pR st p).2.toInt) (hq : 0 < (pR st q).2.toInt) (h1 : ∀ v, lessR (pR st p) (pR st q) = some v → Φ (putP st o v) o) (h2 : lessR (pR st p) (pR st q) = none → jkA st Φa) : w_X2_less st o p q Φ Φa := by
  unfold w_X2_less
  unfold lessR mulO subO pR at h1 h2
  unfold pR at hp hq
  dsimp only at h1 h2 hp hq
  refine s_mulExact (fun f1 => ?_) (fun f1 => h2 (by rw [if_neg f1]; rfl))
  rw [if_pos f1] at h1 h2
  refine s_mulExact (fun f2 => ?_) (fun f2 => h2 (by rw [if_neg f2]; rfl))
  rw [if_pos f2] at h1 h2
  refine s_subExact (fun f3 => ?_) (fun f3 => h2 (by dsimp only [Option.bind]; rw [if_neg f3]))
  dsimp only [Option.bind] at h1 h2
  rw [if_pos f3] at h1 h2
  refine s_mulExact (fun f4 => ?_) (fun f4 => h2 (by dsimp only; rw [if_neg f4]))
  dsimp only at h1 h2
  rw [if_pos f4] at h1 h2
  exact s_X2_is (by have := fit_nz hp hq f4; omega) h1 h2
theorem s_X2_times {st : St} {o p q : Nat} {Φ : St → Nat → Prop} {Φa : St → Prop} (hp : 0 < (pR st p).2.toInt) (hq : 0 < (pR st q).2.toInt) (h1 : ∀ v, timesR (pR st p) (pR st q) = some v → Φ (putP st o v) o) (h2 : timesR (pR st p) (pR st q) = none → jkA st Φa) : w_X2_times st o p q Φ Φa := by
  unfold w_X2_times
  unfold timesR mulO pR at h1 h2
  unfold pR at hp hq
  dsimp only at h1 h2 hp hq
  refine s_mulExact (fun f1 => ?_) (fun f1 => h2 (by rw [if_neg f1]; rfl))
  rw [if_pos f1] at h1 h2
  refine s_mulExact (fun f4 => ?_) (fun f4 => h2 (by rw [if_neg f4]; rfl))
  rw [if_pos f4] at h1 h2
  exact s_X2_is (by have := fit_nz hp hq f4; omega) h1 h2
theorem s_X2_by {st : St} {o p q : Nat} {Φ : St → Nat → Prop} {Φa : St → Prop} (hp : 0 < (pR st p).2.toInt) (hq : (pR st q).1.toInt ≠ 0) (h1 : ∀ v, byR (pR st p) (pR st q) = some v → Φ (putP st o v) o) (h2 : byR (pR st p) (pR st q) = none → jkA st Φa) : w_X2_by st o p q Φ Φa := by
  unfold w_X2_by
  unfold byR mulO pR at h1 h2
  unfold pR at hp hq
  dsimp only at h1 h2 hp hq
  refine s_mulExact (fun f1 => ?_) (fun f1 => h2 (by rw [if_neg f1]; rfl))
  rw [if_pos f1] at h1 h2
  refine s_mulExact (fun f4 => ?_) (fun f4 => h2 (by rw [if_neg f4]; rfl))
  rw [if_pos f4] at h1 h2
  refine s_X2_is ?_ h1 h2
  rw [tmul, bm_fit f4]
  exact Int.mul_ne_zero (by omega) hq
/-! the reference's fractions: the mark of what is too great lies at (175, 20) -/
def w20 (a j : Nat) : Prop := a = 175 ∧ j = 20
def wR (a j : Nat) : Prop := a = 175 ∧ (j = 18 ∨ j = 19 ∨ j = 20)
theorem s_product {st : St} {a b : Int64} {c : Bool} {Φ : St → Int64 → Prop} (hc : sI st 175 20 = ib c) (h : ∀ s, Fr w20 0 0 st s → sI s 175 20 = ib (c || !(decide (fit (a.toInt * b.toInt)))) → Φ s (a * b)) : w_X4_product st a b Φ := by
  have fin : ∀ d, (c || !(decide (fit (a.toInt * b.toInt)))) = d → w_X4_product_b36 Φ st (a * b) (ib d) := fun d hd => by
    unfold w_X4_product_b36
    refine ⟨by cases d <;> simp [ib], ?_⟩
    rintro _ rfl
    exact h _ (Fr_I Fr_rf (Or.inl ⟨rfl, rfl⟩)) (by rw [gI_pI, if_pos ⟨rfl, rfl⟩, hd])
  unfold w_X4_product
  refine s_mulHigh ?_
  rintro _ rfl
  rw [s_product_eq, hc, ib_nz, ib_z]
  refine ⟨fun e => fin true (by rw [e]; rfl), fun e => ⟨fun hf => fin false (by rw [e, decide_eq_true hf]; rfl), fun hf => fin true (by rw [e, decide_eq_false hf]; rfl)⟩⟩
theorem s_sum {st : St} {a b : Int64} {c : Bool} {Φ : St → Int64 → Prop} (hc : sI st 175 20 = ib c) (h : ∀ s, Fr w20 0 0 st s → sI s 175 20 = ib (c || !(decide (fit (a.toInt + b.toInt)))) → Φ s (a + b)) : w_X4_sum st a b Φ := by
  have fin : ∀ d, (c || !(decide (fit (a.toInt + b.toInt)))) = d → w_X4_sum_b69 Φ st (a + b) (ib d) := fun d hd => by
    unfold w_X4_sum_b69
    refine ⟨by cases d <;> simp [ib], ?_⟩
    rintro _ rfl
    exact h _ (Fr_I Fr_rf (Or.inl ⟨rfl, rfl⟩)) (by rw [gI_pI, if_pos ⟨rfl, rfl⟩, hd])
  have e0 : ∀ x : Int64, (x < 0) = ¬ (0 ≤ x.toInt) := fun x => by rw [lt64]; apply propext; show x.toInt < 0 ↔ _; omega
  unfold w_X4_sum
  rintro _ rfl
  rw [hc, ib_nz, ib_z]
  refine ⟨fun e => fin true (by rw [e]; rfl), fun e => ?_⟩
  have hf := sum_fit a b
  simp only [ne_eq, eq_iff_iff] at hf
  have t1 : fit (a.toInt + b.toInt) → w_X4_sum_b69 Φ st (a + b) 0 := fun g => fin false (by rw [e, decide_eq_true g]; rfl)
  have t2 : ¬ fit (a.toInt + b.toInt) → w_X4_sum_b69 Φ st (a + b) 1 := fun g => fin true (by rw [e, decide_eq_false g]; rfl)
  rw [hf] at t1 t2
  unfold w_X4_sum_b24 w_X4_sum_b35 w_X4_sum_b49 w_X4_sum_b61 w_X4_sum_b64 w_X4_sum_b68
  simp only [e0]
  clear hf fin h
  generalize a + b = v at t1 t2 ⊢
  by_cases k1 : 0 ≤ a.toInt <;> by_cases k2 : 0 ≤ b.toInt <;> by_cases k3 : 0 ≤ v.toInt <;> simp [k1, k2, k3] at t1 t2 ⊢ <;> assumption
theorem s_difference {st : St} {a b : Int64} {c : Bool} {Φ : St → Int64 → Prop} (hc : sI st 175 20 = ib c) (h : ∀ s, Fr w20 0 0 st s → sI s 175 20 = ib (c || !(decide (fit (a.toInt - b.toInt)))) → Φ s (a - b)) : w_X4_difference st a b Φ := by
  have fin : ∀ d, (c || !(decide (fit (a.toInt - b.toInt)))) = d → w_X4_difference_b69 Φ st (a - b) (ib d) := fun d hd => by
    unfold w_X4_difference_b69
    refine ⟨by cases d <;> simp [ib], ?_⟩
    rintro _ rfl
    exact h _ (Fr_I Fr_rf (Or.inl ⟨rfl, rfl⟩)) (by rw [gI_pI, if_pos ⟨rfl, rfl⟩, hd])
  have e0 : ∀ x : Int64, (x < 0) = ¬ (0 ≤ x.toInt) := fun x => by rw [lt64]; apply propext; show x.toInt < 0 ↔ _; omega
  unfold w_X4_difference
  rintro _ rfl
  rw [hc, ib_nz, ib_z]
  refine ⟨fun e => fin true (by rw [e]; rfl), fun e => ?_⟩
  have hf := dif_fit a b
  simp only [eq_iff_iff] at hf
  have t1 : fit (a.toInt - b.toInt) → w_X4_difference_b69 Φ st (a - b) 0 := fun g => fin false (by rw [e, decide_eq_true g]; rfl)
  have t2 : ¬ fit (a.toInt - b.toInt) → w_X4_difference_b69 Φ st (a - b) 1 := fun g => fin true (by rw [e, decide_eq_false g]; rfl)
  rw [hf] at t1 t2
  unfold w_X4_difference_b24 w_X4_difference_b35 w_X4_difference_b49 w_X4_difference_b61 w_X4_difference_b64 w_X4_difference_b68
  simp only [e0]
  clear hf fin h
  generalize a - b = v at t1 t2 ⊢
  by_cases k1 : 0 ≤ a.toInt <;> by_cases k2 : 0 ≤ b.toInt <;> by_cases k3 : 0 ≤ v.toInt <;> simp [k1, k2, k3] at t1 t2 ⊢ <;> assumption
theorem s_lowest {st : St} {u w : Int64} {c : Bool} {Φ : St → Prop} (hc : sI st 175 20 = ib c) (hw : c = false → w.toInt ≠ 0) (h : ∀ s, Fr wR 0 0 st s → sI s 175 20 = ib c → (c = false → (sL s 175 18, sL s 175 19) = lowR u w) → Φ s) : w_X4_lowest st u w Φ := by
  unfold w_X4_lowest
  rw [hc, ib_nz, ib_z]
  refine ⟨fun e => h st Fr_rf hc (fun h2 => by rw [e] at h2; cases h2), fun e => s_div4 ⟨gcd_nz (hw e), ?_⟩⟩
  rintro _ rfl _ rfl
  refine h _ (Fr_L (Fr_L Fr_rf (Or.inl ⟨rfl, Or.inl rfl⟩)) (Or.inl ⟨rfl, Or.inr (Or.inl rfl)⟩)) (by rw [gI_pL, gI_pL]; exact hc) (fun _ => ?_)
  rw [gL_pL, if_neg (by omega), gL_pL, if_pos ⟨rfl, rfl⟩, gL_pL, if_pos ⟨rfl, rfl⟩]; rfl
theorem w20_R : ∀ a j, w20 a j → wR a j := fun a j h => ⟨h.1, Or.inr (Or.inr h.2)⟩
/-- what is worked out: marked, or a fraction -/
def Bg (c : Bool) (o : Option (Int64 × Int64)) (st s : St) : Prop := Fr wR 0 0 st s ∧ sI s 175 20 = ib (c || o.isNone) ∧ (c = false → ∀ v, o = some v → (sL s 175 18, sL s 175 19) = v)
theorem Fr_20 {st s1 s2 : St} (h : Fr wR 0 0 st s1) (g : Fr w20 0 0 s1 s2) : Fr wR 0 0 st s2 := Fr_tr (x := 0) (y := 0) h (Fr_mo g w20_R (Nat.le_refl _) (Nat.le_refl _))
theorem isR_pos {u w : Int64} (h : 0 < w.toInt) : isR u w = some (lowR u w) := by unfold isR; rw [if_pos (by omega)]
theorem s_X4_add {st : St} {x y : Int64 × Int64} {c : Bool} {Φ : St → Prop} (hc : sI st 175 20 = ib c) (hx : c = false → 0 < x.2.toInt) (hy : c = false → 0 < y.2.toInt) (h : ∀ s, Bg c (addR x y) st s → Φ s) : w_X4_add st x.1 x.2 y.1 y.2 Φ := by
  unfold w_X4_add
  refine s_product hc (fun s1 f1 c1 => s_product c1 (fun s2 f2 c2 => s_sum c2 (fun s3 f3 c3 => s_product c3 (fun s4 f4 c4 => ?_))))
  have F := Fr_20 (Fr_20 (Fr_20 (Fr_20 Fr_rf f1) f2) f3) f4
  refine s_lowest c4 (fun e => ?_) (fun s5 f5 c5 v5 => h s5 ⟨Fr_tr (x := 0) (y := 0) F f5, ?_, fun e v hv => ?_⟩)
  · simp only [Bool.or_eq_false_iff, Bool.not_eq_false', decide_eq_true_iff] at e
    have := fit_nz (hx e.1.1.1.1) (hy e.1.1.1.1) e.2
    omega
  · rw [c5]
    cases c with
    | true => rfl
    | false =>
      congr 1
      unfold addR
      by_cases k1 : fit (x.1.toInt * y.2.toInt)
      · rw [mulO_t k1, bd_s, decide_eq_true k1]
        by_cases k2 : fit (y.1.toInt * x.2.toInt)
        · rw [mulO_t k2, bd_s, decide_eq_true k2]
          by_cases k3 : fit ((x.1 * y.2).toInt + (y.1 * x.2).toInt)
          · rw [addO_t k3, bd_s, decide_eq_true k3]
            by_cases k4 : fit (x.2.toInt * y.2.toInt)
            · rw [mulO_t k4, bd_s, decide_eq_true k4, isR_pos (fit_nz (hx rfl) (hy rfl) k4)]; rfl
            · rw [mulO_f k4, bd_n, decide_eq_false k4]; rfl
          · rw [addO_f k3, bd_n, decide_eq_false k3]; rfl
        · rw [mulO_f k2, bd_n, decide_eq_false k2]; rfl
      · rw [mulO_f k1, bd_n, decide_eq_false k1]; rfl
  · subst e
    unfold addR at hv
    by_cases k1 : fit (x.1.toInt * y.2.toInt)
    · rw [mulO_t k1, bd_s] at hv
      by_cases k2 : fit (y.1.toInt * x.2.toInt)
      · rw [mulO_t k2, bd_s] at hv
        by_cases k3 : fit ((x.1 * y.2).toInt + (y.1 * x.2).toInt)
        · rw [addO_t k3, bd_s] at hv
          by_cases k4 : fit (x.2.toInt * y.2.toInt)
          · rw [mulO_t k4, bd_s, isR_pos (fit_nz (hx rfl) (hy rfl) k4)] at hv
            cases hv
            exact v5 (by rw [decide_eq_true k1, decide_eq_true k2, decide_eq_true k3, decide_eq_true k4]; rfl)
          · rw [mulO_f k4, bd_n] at hv; cases hv
        · rw [addO_f k3, bd_n] at hv; cases hv
      · rw [mulO_f k2, bd_n] at hv; cases hv
    · rw [mulO_f k1, bd_n] at hv; cases hv
theorem s_X4_less {st : St} {x y : Int64 × Int64} {c : Bool} {Φ : St → Prop} (hc : sI st 175 20 = ib c) (hx : c = false → 0 < x.2.toInt) (hy : c = false → 0 < y.2.toInt) (h : ∀ s, Bg c (lessR x y) st s → Φ s) : w_X4_less st x.1 x.2 y.1 y.2 Φ := by
  unfold w_X4_less
  refine s_product hc (fun s1 f1 c1 => s_product c1 (fun s2 f2 c2 => s_difference c2 (fun s3 f3 c3 => s_product c3 (fun s4 f4 c4 => ?_))))
  have F := Fr_20 (Fr_20 (Fr_20 (Fr_20 Fr_rf f1) f2) f3) f4
  refine s_lowest c4 (fun e => ?_) (fun s5 f5 c5 v5 => h s5 ⟨Fr_tr (x := 0) (y := 0) F f5, ?_, fun e v hv => ?_⟩)
  · simp only [Bool.or_eq_false_iff, Bool.not_eq_false', decide_eq_true_iff] at e
    have := fit_nz (hx e.1.1.1.1) (hy e.1.1.1.1) e.2
    omega
  · rw [c5]
    cases c with
    | true => rfl
    | false =>
      congr 1
      unfold lessR
      by_cases k1 : fit (x.1.toInt * y.2.toInt)
      · rw [mulO_t k1, bd_s, decide_eq_true k1]
        by_cases k2 : fit (y.1.toInt * x.2.toInt)
        · rw [mulO_t k2, bd_s, decide_eq_true k2]
          by_cases k3 : fit ((x.1 * y.2).toInt - (y.1 * x.2).toInt)
          · rw [subO_t k3, bd_s, decide_eq_true k3]
            by_cases k4 : fit (x.2.toInt * y.2.toInt)
            · rw [mulO_t k4, bd_s, decide_eq_true k4, isR_pos (fit_nz (hx rfl) (hy rfl) k4)]; rfl
            · rw [mulO_f k4, bd_n, decide_eq_false k4]; rfl
          · rw [subO_f k3, bd_n, decide_eq_false k3]; rfl
        · rw [mulO_f k2, bd_n, decide_eq_false k2]; rfl
      · rw [mulO_f k1, bd_n, decide_eq_false k1]; rfl
  · subst e
    unfold lessR at hv
    by_cases k1 : fit (x.1.toInt * y.2.toInt)
    · rw [mulO_t k1, bd_s] at hv
      by_cases k2 : fit (y.1.toInt * x.2.toInt)
      · rw [mulO_t k2, bd_s] at hv
        by_cases k3 : fit ((x.1 * y.2).toInt - (y.1 * x.2).toInt)
        · rw [subO_t k3, bd_s] at hv
          by_cases k4 : fit (x.2.toInt * y.2.toInt)
          · rw [mulO_t k4, bd_s, isR_pos (fit_nz (hx rfl) (hy rfl) k4)] at hv
            cases hv
            exact v5 (by rw [decide_eq_true k1, decide_eq_true k2, decide_eq_true k3, decide_eq_true k4]; rfl)
          · rw [mulO_f k4, bd_n] at hv; cases hv
        · rw [subO_f k3, bd_n] at hv; cases hv
      · rw [mulO_f k2, bd_n] at hv; cases hv
    · rw [mulO_f k1, bd_n] at hv; cases hv
theorem s_X4_times {st : St} {x y : Int64 × Int64} {c : Bool} {Φ : St → Prop} (hc : sI st 175 20 = ib c) (hx : c = false → 0 < x.2.toInt) (hy : c = false → 0 < y.2.toInt) (h : ∀ s, Bg c (timesR x y) st s → Φ s) : w_X4_times st x.1 x.2 y.1 y.2 Φ := by
  unfold w_X4_times
  refine s_product hc (fun s1 f1 c1 => s_product c1 (fun s4 f4 c4 => ?_))
  have F := Fr_20 (Fr_20 Fr_rf f1) f4
  refine s_lowest c4 (fun e => ?_) (fun s5 f5 c5 v5 => h s5 ⟨Fr_tr (x := 0) (y := 0) F f5, ?_, fun e v hv => ?_⟩)
  · simp only [Bool.or_eq_false_iff, Bool.not_eq_false', decide_eq_true_iff] at e
    have := fit_nz (hx e.1.1) (hy e.1.1) e.2
    omega
  · rw [c5]
    cases c with
    | true => rfl
    | false =>
      congr 1
      unfold timesR
      by_cases k1 : fit (x.1.toInt * y.1.toInt)
      · rw [mulO_t k1, bd_s, decide_eq_true k1]
        by_cases k4 : fit (x.2.toInt * y.2.toInt)
        · rw [mulO_t k4, bd_s, decide_eq_true k4, isR_pos (fit_nz (hx rfl) (hy rfl) k4)]; rfl
        · rw [mulO_f k4, bd_n, decide_eq_false k4]; rfl
      · rw [mulO_f k1, bd_n, decide_eq_false k1]; rfl
  · subst e
    unfold timesR at hv
    by_cases k1 : fit (x.1.toInt * y.1.toInt)
    · rw [mulO_t k1, bd_s] at hv
      by_cases k4 : fit (x.2.toInt * y.2.toInt)
      · rw [mulO_t k4, bd_s, isR_pos (fit_nz (hx rfl) (hy rfl) k4)] at hv
        cases hv
        exact v5 (by rw [decide_eq_true k1, decide_eq_true k4]; rfl)
      · rw [mulO_f k4, bd_n] at hv; cases hv
    · rw [mulO_f k1, bd_n] at hv; cases hv
theorem sub0 (a : Int64) : 0 - a = -a := by apply ofI_inj; rw [tsub, tneg]; congr 1; show (0 : Int) - _ = _; omega
theorem s_X4_by {st : St} {x y : Int64 × Int64} {c : Bool} {Φ : St → Prop} (hc : sI st 175 20 = ib c) (hx : c = false → 0 < x.2.toInt) (hy : c = false → y.1.toInt ≠ 0) (h : ∀ s, Bg c (byR x y) st s → Φ s) : w_X4_by st x.1 x.2 y.1 y.2 Φ := by
  unfold w_X4_by
  refine s_product hc (fun s1 f1 c1 => s_product c1 (fun s4 f4 c4 => ?_))
  have F := Fr_20 (Fr_20 Fr_rf f1) f4
  rw [c4, ib_nz, ib_z]
  have nz : fit (x.2.toInt * y.1.toInt) → c = false → (x.2 * y.1).toInt ≠ 0 := fun hf e => by
    rw [tmul, bm_fit hf]
    exact Int.mul_ne_zero (by have := hx e; omega) (hy e)
  unfold w_X4_by_b50
  have none1 : c = false → ¬ fit (x.1.toInt * y.2.toInt) → byR x y = none := fun e k => by unfold byR; rw [mulO_f k, bd_n]
  have none2 : c = false → ¬ fit (x.2.toInt * y.1.toInt) → byR x y = none := fun e k => by
    unfold byR
    by_cases k1 : fit (x.1.toInt * y.2.toInt)
    · rw [mulO_t k1, bd_s, mulO_f k, bd_n]
    · rw [mulO_f k1, bd_n]
  have some1 : fit (x.1.toInt * y.2.toInt) → fit (x.2.toInt * y.1.toInt) → byR x y = isR (x.1 * y.2) (x.2 * y.1) := fun k1 k2 => by unfold byR; rw [mulO_t k1, bd_s, mulO_t k2, bd_s]
  refine ⟨fun e => ?_, fun e => ?_⟩
  · -- marked
    refine s_lowest (c := true) (by rw [c4, e]) (fun h => by cases h) (fun s5 f5 c5 _ => h s5 ⟨Fr_tr (x := 0) (y := 0) F f5, ?_, fun e2 v hv => ?_⟩)
    · rw [c5]; congr 1
      cases c with
      | true => rfl
      | false =>
        simp only [Bool.false_or, Bool.or_eq_true, Bool.not_eq_true', decide_eq_false_iff_not] at e
        rcases e with k | k
        · rw [none1 rfl k]; rfl
        · rw [none2 rfl k]; rfl
    · subst e2
      simp only [Bool.false_or, Bool.or_eq_true, Bool.not_eq_true', decide_eq_false_iff_not] at e
      rcases e with k | k
      · rw [none1 rfl k] at hv; cases hv
      · rw [none2 rfl k] at hv; cases hv
  · have e9 := e
    simp only [Bool.or_eq_false_iff, Bool.not_eq_false', decide_eq_true_iff] at e
    obtain ⟨⟨e0, k1⟩, k2⟩ := e
    subst e0
    have hs := some1 k1 k2
    have hz := nz k2 rfl
    rw [e9] at c4
    rw [ge064]
    refine ⟨fun g0 => ?_, fun g0 => ?_⟩
    · refine s_lowest c4 (fun _ => hz) (fun s5 f5 c5 v5 => h s5 ⟨Fr_tr (x := 0) (y := 0) F f5, ?_, fun _ v hv => ?_⟩)
      · rw [c5, hs, isR_pos (by omega)]; rfl
      · rw [hs, isR_pos (by omega)] at hv; cases hv; exact v5 rfl
    · refine s_difference c4 (fun s6 f6 c6 => s_difference c6 (fun s7 f7 c7 => ?_))
      have F2 := Fr_20 (Fr_20 F f6) f7
      rw [sub0, sub0]
      have z0 : ∀ a : Int64, (0 : Int64).toInt - a.toInt = -a.toInt := fun a => by show (0 : Int) - _ = _; omega
      rw [z0, z0] at c7
      rw [Bool.false_or] at c7
      refine s_lowest c7 (fun e => ?_) (fun s5 f5 c5 v5 => h s5 ⟨Fr_tr (x := 0) (y := 0) F2 f5, ?_, fun _ v hv => ?_⟩)
      · simp only [Bool.or_eq_false_iff, Bool.not_eq_false', decide_eq_true_iff] at e
        rw [tneg, bm_fit e.2]; omega
      · rw [c5, hs]
        unfold isR
        rw [if_neg g0]
        by_cases j1 : fit (-(x.1 * y.2).toInt)
        · rw [negO_t j1, bd_s, decide_eq_true j1]
          by_cases j2 : fit (-(x.2 * y.1).toInt)
          · rw [negO_t j2, bd_s, decide_eq_true j2]; rfl
          · rw [negO_f j2, bd_n, decide_eq_false j2]; rfl
        · rw [negO_f j1, bd_n, decide_eq_false j1]; rfl
      · rw [hs] at hv
        unfold isR at hv
        rw [if_neg g0] at hv
        by_cases j1 : fit (-(x.1 * y.2).toInt)
        · rw [negO_t j1, bd_s] at hv
          by_cases j2 : fit (-(x.2 * y.1).toInt)
          · rw [negO_t j2, bd_s] at hv
            cases hv
            exact v5 (by rw [decide_eq_true j1, decide_eq_true j2]; rfl)
          · rw [negO_f j2, bd_n] at hv; cases hv
        · rw [negO_f j1, bd_n] at hv; cases hv
