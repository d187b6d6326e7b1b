/-! PLAIN LAW, 1: reads over writes, frames, loops, small readers -/
set_option maxRecDepth 100000
section PL1
variable {st s1 s2 : St} {a b j k x y z w : Nat} {W V : Nat → Nat → Prop}
theorem gI_pI {v : Int32} : sI (putI st a j v) b k = if b = a ∧ k = j then v else sI st b k := Eq.trans rfl rfl
theorem gI_pL {v : Int64} : sI (putL st a j v) b k = sI st b k := Eq.trans rfl rfl
theorem gI_pR {v : Option Nat} : sI (putR st a j v) b k = sI st b k := Eq.trans rfl rfl
theorem gL_pI {v : Int32} : sL (putI st a j v) b k = sL st b k := Eq.trans rfl rfl
theorem gL_pL {v : Int64} : sL (putL st a j v) b k = if b = a ∧ k = j then v else sL st b k := Eq.trans rfl rfl
theorem gL_pR {v : Option Nat} : sL (putR st a j v) b k = sL st b k := Eq.trans rfl rfl
theorem gR_pI {v : Int32} : sR (putI st a j v) b k = sR st b k := Eq.trans rfl rfl
theorem gR_pL {v : Int64} : sR (putL st a j v) b k = sR st b k := Eq.trans rfl rfl
theorem gR_pR {v : Option Nat} : sR (putR st a j v) b k = if b = a ∧ k = j then v else sR st b k := Eq.trans rfl rfl
theorem gN_pI {v : Int32} : sN (putI st a j v) = sN st := Eq.trans rfl rfl
theorem gN_pL {v : Int64} : sN (putL st a j v) = sN st := Eq.trans rfl rfl
theorem gN_pR {v : Option Nat} : sN (putR st a j v) = sN st := Eq.trans rfl rfl
theorem gS_pI {v : Int32} : sS (putI st a j v) = sS st := Eq.trans rfl rfl
theorem gS_pL {v : Int64} : sS (putL st a j v) = sS st := Eq.trans rfl rfl
theorem gS_pR {v : Option Nat} : sS (putR st a j v) = sS st := Eq.trans rfl rfl
theorem gs_pI {v : Int32} : sh (putI st a j v) = sh st := Eq.trans rfl rfl
theorem gs_pL {v : Int64} : sh (putL st a j v) = sh st := Eq.trans rfl rfl
theorem gs_pR {v : Option Nat} : sh (putR st a j v) = sh st := Eq.trans rfl rfl
theorem gl_pI {v : Int32} : ln (putI st a j v) = ln st := Eq.trans rfl rfl
theorem gl_pL {v : Int64} : ln (putL st a j v) = ln st := Eq.trans rfl rfl
theorem gl_pR {v : Option Nat} : ln (putR st a j v) = ln st := Eq.trans rfl rfl
theorem gI_mk {c n : Nat} : sI (mk st c n) b k = if b = sN st then 0 else sI st b k := Eq.trans rfl rfl
theorem gL_mk {c n : Nat} : sL (mk st c n) b k = if b = sN st then 0 else sL st b k := Eq.trans rfl rfl
theorem gR_mk {c n : Nat} : sR (mk st c n) b k = if b = sN st then none else sR st b k := Eq.trans rfl rfl
theorem gN_mk {c n : Nat} : sN (mk st c n) = sN st + 1 := Eq.trans rfl rfl
theorem gS_mk {c n : Nat} : sS (mk st c n) = sS st + n := Eq.trans rfl rfl
theorem gs_mk {c n : Nat} : sh (mk st c n) b = if b = sN st then c else sh st b := Eq.trans rfl rfl
theorem gl_mk {c n : Nat} : ln (mk st c n) b = if b = sN st then n else ln st b := Eq.trans rfl rfl
/-- what lies at (a, j) -/
def Same (st st' : St) (a j : Nat) : Prop := sI st' a j = sI st a j ∧ sL st' a j = sL st a j ∧ sR st' a j = sR st a j
/-- old cells are as they were, but W; so many cells, slots are new at most -/
def Fr (W : Nat → Nat → Prop) (dn ds : Nat) (st st' : St) : Prop := sN st ≤ sN st' ∧ sN st' ≤ sN st + dn ∧ sS st' ≤ sS st + ds ∧ ∀ a, (a < sN st ∨ gBIG ≤ a) → sh st' a = sh st a ∧ ln st' a = ln st a ∧ ∀ j, ¬ W a j → Same st st' a j
theorem Fr_rf : Fr W 0 0 st st := ⟨Nat.le_refl _, Nat.le_refl _, Nat.le_refl _, fun _ _ => ⟨rfl, rfl, fun _ _ => ⟨rfl, rfl, rfl⟩⟩⟩
theorem Fr_tr (h : Fr W x y st s1) (g : Fr W z w s1 s2) : Fr W (x + z) (y + w) st s2 := by
  obtain ⟨h1, h2, h3, h4⟩ := h
  obtain ⟨g1, g2, g3, g4⟩ := g
  refine ⟨by omega, by omega, by omega, fun a ha => ?_⟩
  obtain ⟨e1, e2, e3⟩ := h4 a ha
  obtain ⟨f1, f2, f3⟩ := g4 a (by rcases ha with ha | ha <;> omega)
  refine ⟨f1.trans e1, f2.trans e2, fun j hj => ?_⟩
  obtain ⟨i1, i2, i3⟩ := e3 j hj
  obtain ⟨k1, k2, k3⟩ := f3 j hj
  exact ⟨k1.trans i1, k2.trans i2, k3.trans i3⟩
theorem Fr_mo (h : Fr W x y st s1) (hW : ∀ a j, W a j → V a j) (hx : x ≤ z) (hy : y ≤ w) : Fr V z w st s1 := by
  obtain ⟨h1, h2, h3, h4⟩ := h
  exact ⟨h1, by omega, by omega, fun a ha => ⟨(h4 a ha).1, (h4 a ha).2.1, fun j hj => (h4 a ha).2.2 j (fun hw => hj (hW a j hw))⟩⟩
theorem Fr_I (h : Fr W x y st s1) (hw : W a j ∨ (sN st ≤ a ∧ a < gBIG)) {v : Int32} : Fr W x y st (putI s1 a j v) := by
  obtain ⟨h1, h2, h3, h4⟩ := h
  refine ⟨h1, h2, h3, fun b hb => ⟨(h4 b hb).1, (h4 b hb).2.1, fun i hi => ?_⟩⟩
  obtain ⟨e1, e2, e3⟩ := (h4 b hb).2.2 i hi
  refine ⟨?_, e2, e3⟩
  rw [gI_pI, if_neg]
  · exact e1
  · rintro ⟨rfl, rfl⟩
    rcases hw with hw | hw
    · exact hi hw
    · omega
theorem Fr_L (h : Fr W x y st s1) (hw : W a j ∨ (sN st ≤ a ∧ a < gBIG)) {v : Int64} : Fr W x y st (putL s1 a j v) := by
  obtain ⟨h1, h2, h3, h4⟩ := h
  refine ⟨h1, h2, h3, fun b hb => ⟨(h4 b hb).1, (h4 b hb).2.1, fun i hi => ?_⟩⟩
  obtain ⟨e1, e2, e3⟩ := (h4 b hb).2.2 i hi
  refine ⟨e1, ?_, e3⟩
  rw [gL_pL, if_neg]
  · exact e2
  · rintro ⟨rfl, rfl⟩
    rcases hw with hw | hw
    · exact hi hw
    · omega
theorem Fr_R (h : Fr W x y st s1) (hw : W a j ∨ (sN st ≤ a ∧ a < gBIG)) {v : Option Nat} : Fr W x y st (putR s1 a j v) := by
  obtain ⟨h1, h2, h3, h4⟩ := h
  refine ⟨h1, h2, h3, fun b hb => ⟨(h4 b hb).1, (h4 b hb).2.1, fun i hi => ?_⟩⟩
  obtain ⟨e1, e2, e3⟩ := (h4 b hb).2.2 i hi
  refine ⟨e1, e2, ?_⟩
  rw [gR_pR, if_neg]
  · exact e3
  · rintro ⟨rfl, rfl⟩
    rcases hw with hw | hw
    · exact hi hw
    · omega
theorem Fr_mk (h : Fr W x y st s1) (hb : sN s1 < gBIG) {c n : Nat} : Fr W (x + 1) (y + n) st (mk s1 c n) := by
  obtain ⟨h1, h2, h3, h4⟩ := h
  refine ⟨by rw [gN_mk]; omega, by rw [gN_mk]; omega, by rw [gS_mk]; omega, fun a ha => ?_⟩
  have hne : a ≠ sN s1 := by rcases ha with ha | ha <;> omega
  obtain ⟨e1, e2, e3⟩ := h4 a ha
  refine ⟨by rw [gs_mk, if_neg hne]; exact e1, by rw [gl_mk, if_neg hne]; exact e2, fun j hj => ?_⟩
  obtain ⟨i1, i2, i3⟩ := e3 j hj
  exact ⟨by rw [gI_mk, if_neg hne]; exact i1, by rw [gL_mk, if_neg hne]; exact i2, by rw [gR_mk, if_neg hne]; exact i3⟩
end PL1
theorem loop_up {α : Type} {L : Nat → α → Prop} (N : Nat) (I : Nat → α → Prop) (step : ∀ n i a, i < N → I i a → (∀ a', I (i + 1) a' → L n a') → L (n + 1) a) (exit : ∀ n a, I N a → L (n + 1) a) : ∀ (n i : Nat) (a : α), i ≤ N → N - i < n → I i a → L n a
  | 0, i, a, _, h, _ => absurd h (by omega)
  | n + 1, i, a, hi, h, hI => by
    by_cases e : i = N
    · subst e; exact exit n a hI
    · exact step n i a (by omega) hI (fun a' ha' => loop_up N I step exit n (i + 1) a' (by omega) (by omega) ha')
theorem gFU_big {n : Nat} (h : n < 100000000) : n < gFU := by unfold gFU; omega
/-! numbers -/
def ib (c : Bool) : Int32 := if c then 1 else 0
theorem ib_z {c : Bool} : (ib c = 0) = (c = false) := by cases c <;> simp [ib]
theorem ib_nz {c : Bool} : (ib c ≠ 0) = (c = true) := by cases c <;> simp [ib]
theorem ib_01 {c : Bool} : (ib c = 0 ∨ ib c = 1) = True := by cases c <;> simp [ib]
theorem nn_of {n : Nat} (h : n < 2 ^ 31) : (Int32.ofNat n).toNatClampNeg = n := Int32.toNatClampNeg_ofNat_of_lt h
theorem le_of {m n : Nat} (hm : m < 2 ^ 31) (hn : n < 2 ^ 31) : (Int32.ofNat m ≤ Int32.ofNat n) = (m ≤ n) := propext (Int32.ofNat_le_iff_le hm hn)
theorem lt_of {m n : Nat} (hm : m < 2 ^ 31) (hn : n < 2 ^ 31) : (Int32.ofNat m < Int32.ofNat n) = (m < n) := propext (Int32.ofNat_lt_iff_lt hm hn)
theorem succ_of (n : Nat) : Int32.ofNat n + 1 = Int32.ofNat (n + 1) := (Int32.ofNat_add n 1).symm
theorem vp_of {m n : Nat} (hm : m < 2 ^ 31) : vp_in (Int32.ofNat m) n = (m < n) := by
  unfold vp_in
  rw [nn_of hm]
  have h : ¬ Int32.ofNat m < 0 := by
    have := lt_of hm (show 0 < 2 ^ 31 by decide)
    rw [show (0 : Int32) = Int32.ofNat 0 from rfl, this]; omega
  simp only [h, false_or, Nat.not_le]
/-! small readers -/
def inB (p a b : Int64) : Bool := decide (a ≤ p) && decide (p ≤ b)
theorem pe_X0_in {p a b : Int64} {Φ : Int32 → Prop} : w_X0_in p a b Φ = Φ (ib (inB p a b)) := by
  unfold w_X0_in inB
  by_cases h1 : p < a
  · have h2 : ¬ a ≤ p := Int64.not_le.mpr h1
    simp [h1, h2, ib]
  · have h2 : a ≤ p := Int64.not_lt.mp h1
    by_cases h3 : b < p
    · have h4 : ¬ p ≤ b := Int64.not_le.mpr h3
      simp [h1, h2, h3, h4, ib]
    · have h4 : p ≤ b := Int64.not_lt.mp h3
      simp [h1, h2, h3, h4, ib]
theorem pe_X4_isIn {p a b : Int64} {Φ : Int32 → Prop} : w_X4_isIn p a b Φ = Φ (ib (inB p a b)) := pe_X0_in
theorem pe_X0_isPart {p : Int32} {Φ : Int32 → Prop} : w_X0_isPart p Φ = Φ (ib (inB p.toInt64 0 1)) := by unfold w_X0_isPart; rw [pe_X0_in]; simp [ib_01]
theorem pe_X0_isPlace {p : Int32} {Φ : Int32 → Prop} : w_X0_isPlace p Φ = Φ (ib (inB p.toInt64 0 2)) := by unfold w_X0_isPlace; rw [pe_X0_in]; simp [ib_01]
theorem pe_X0_isSheet {p : Int32} {Φ : Int32 → Prop} : w_X0_isSheet p Φ = Φ (ib (inB p.toInt64 0 4)) := by unfold w_X0_isSheet; rw [pe_X0_in]; simp [ib_01]
theorem pe_X1_isPoint {o : Nat} {st : St} {p : Int32} {Φ : Int32 → Prop} : w_X1_isPoint o st p Φ = Φ (ib (inB p.toInt64 0 ((sI st o 9) - 1).toInt64)) := by unfold w_X1_isPoint; rw [pe_X0_in]; simp [ib_01]
theorem pe_X1_isState {o : Nat} {st : St} {p : Int32} {Φ : Int32 → Prop} : w_X1_isState o st p Φ = Φ (ib (inB p.toInt64 0 ((sI st o 0) - 1).toInt64)) := by unfold w_X1_isState; rw [pe_X0_in]; simp [ib_01]
/-! errors: a Wrong is made, thrown, caught, counted -/
def noW : Nat → Nat → Prop := fun _ _ => False
theorem s_X5_init {st : St} {a : Nat} {k : Int32} {Φ : St → Prop} (h : ∀ st', (∀ W x y s0, Fr W x y s0 st → sN s0 ≤ a → a < gBIG → Fr W x y s0 st') → sI st' a 6 = k → sN st' = sN st → sS st' = sS st → sh st' = sh st → Φ st') : w_X5_init st a k Φ := by
  unfold w_X5_init w_J2_initv6 w_J1_initv6 w_J0_init_2v6
  rintro _ rfl r3 _ rfl r6 _ rfl
  refine ⟨fun _ => ?_, fun h => absurd rfl h⟩
  rintro _ rfl
  unfold w_J0_init_2v6_b41
  rintro _ rfl _ rfl
  refine ⟨fun h => absurd rfl h, fun _ => ?_⟩
  rintro _ rfl _ rfl
  refine h _ (fun W x y s0 h1 h2 h3 => ?_) ?_ ?_ ?_ ?_
  · have hw : ∀ j, W a j ∨ (sN s0 ≤ a ∧ a < gBIG) := fun j => Or.inr ⟨h2, h3⟩
    exact Fr_I (Fr_R (Fr_R (Fr_R (Fr_R (Fr_R (Fr_R (Fr_R h1 (hw _)) (hw _)) (hw _)) (hw _)) (hw _)) (hw _)) (hw _)) (hw _)
  · rw [gI_pI, if_pos ⟨rfl, rfl⟩]
  · rfl
  · rfl
  · rfl
theorem s_need {st : St} {c : Bool} {k : Int32} {Φ : St → Prop} {Φw : St → Nat → Prop} (h1 : c = true → Φ st) (h2 : c = false → sN st + 1 ≤ gCAP ∧ sS st + 7 ≤ gCAPS ∧ ∀ st', Fr noW 1 7 st st' → sI st' (sN st) 6 = k → Φw st' (sN st)) : w_X0_need st (ib c) k Φ Φw := by
  unfold w_X0_need
  rw [ib_nz, ib_z]
  refine ⟨h1, fun hc => ?_⟩
  obtain ⟨g1, g2, g3⟩ := h2 hc
  refine ⟨g1, g2, ?_⟩
  rintro _ rfl
  have hb : sN st < gBIG := by unfold gCAP at g1; unfold gBIG; omega
  refine s_X5_init (fun st' e1 e2 e3 e4 e5 => g3 st' ?_ e2)
  have h9 := e1 noW 1 7 st (Fr_mo (Fr_mk (W := noW) (c := 6) (n := 7) (Fr_rf (st := st)) hb) (fun _ _ h => h) (by omega) (by omega)) (Nat.le_refl _) hb
  exact h9
theorem s_must {st : St} {c : Bool} {Φ : St → Prop} {Φw : St → Nat → Prop} (h1 : c = true → Φ st) (h2 : c = false → sN st + 1 ≤ gCAP ∧ sS st + 7 ≤ gCAPS ∧ ∀ st', Fr noW 1 7 st st' → sI st' (sN st) 6 = 1 → Φw st' (sN st)) : w_X0_must st (ib c) Φ Φw := s_need h1 h2
