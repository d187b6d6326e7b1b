/-! PLAIN LAW, 38: a kernel is found in every table of small numbers -/
set_option maxRecDepth 100000
def sgZ (t : Nat → Nat → Int) (n : Nat) : Int := if xZ t n (n + 1) (n + 1) ≤ 0 then -1 else 1
def cwZ (t : Nat → Nat → Int) (n k : Nat) : Int := (if (n + k) % 2 = 0 then sgZ t n else -sgZ t n) * xZ t n n k
def rwZ (t : Nat → Nat → Int) (n k : Nat) : Int := (if (n + k) % 2 = 0 then sgZ t n else -sgZ t n) * xZ t n k n
def woZ (t : Nat → Nat → Int) (n : Nat) : Int := (-sgZ t n) * xZ t n n n
def toZ (t : Nat → Nat → Int) (n : Nat) : Int := xZ t n (n + 1) (n + 1) * sgZ t n
def tQ (T : Nat → Nat → Int64) (I J : Nat → Nat) (i j : Nat) : Int := (T (I i) (J j)).toInt
def smZ (f : Nat → Int) : Nat → Int
  | 0 => 0
  | k + 1 => smZ f k + f k
theorem smL_ok {f : Nat → Int64} {F : Nat → Int} (h : ∀ k, f k = Int64.ofInt (F k)) : ∀ n, smL f n = Int64.ofInt (smZ F n)
  | 0 => rfl
  | n + 1 => by rw [smL, smZ, smL_ok h n, h, Int64.ofInt_add]
theorem smZ_b {F : Nat → Int} {M : Int} : ∀ n, (∀ k, k < n → -M ≤ F k ∧ F k ≤ M) → -((n : Int) * M) ≤ smZ F n ∧ smZ F n ≤ (n : Int) * M
  | 0, _ => by simp [smZ]
  | n + 1, h => by
    obtain ⟨h1, h2⟩ := smZ_b n (fun k hk => h k (by omega))
    obtain ⟨h3, h4⟩ := h n (by omega)
    rw [smZ]
    push_cast
    rw [Int.add_mul]
    omega
theorem sg_c (t : Nat → Nat → Int) (n : Nat) : sgZ t n = 1 ∨ sgZ t n = -1 := by
  unfold sgZ; split
  · exact Or.inr rfl
  · exact Or.inl rfl
theorem zb (n : Nat) (hn : 1 ≤ n ∧ n ≤ 3) (t : Nat → Nat → Int) (ht : ∀ i j, i < n → j < n → bd (t i j)) : (-3303478080000 ≤ toZ t n ∧ toZ t n ≤ 3303478080000) ∧ (-471736669824000000 ≤ woZ t n ∧ woZ t n ≤ 471736669824000000) ∧ (∀ k, k < n → -1101159360000 ≤ cwZ t n k ∧ cwZ t n k ≤ 1101159360000) ∧ ∀ k, k < n → -1101159360000 ≤ rwZ t n k ∧ rwZ t n k ≤ 1101159360000 := by
  obtain ⟨h1, h2, h3, h4⟩ := xb n hn t ht
  refine ⟨?_, ?_, fun k hk => ?_, fun k hk => ?_⟩
  · unfold toZ
    rcases sg_c t n with e | e <;> rw [e] <;> omega
  · unfold woZ
    rcases sg_c t n with e | e <;> rw [e] <;> omega
  · have := h3 k hk
    unfold cwZ
    rcases sg_c t n with e | e <;> rw [e] <;> split <;> omega
  · have := h4 k hk
    unfold rwZ
    rcases sg_c t n with e | e <;> rw [e] <;> split <;> omega
/-- what the longs are -/
theorem k_ok {T : Nat → Nat → Int64} {n : Nat} {I J : Nat → Nat} (hn : 1 ≤ n ∧ n ≤ 3) (ht : ∀ i j, i < n → j < n → bd (tQ T I J i j)) : kSg T n I J = Int64.ofInt (sgZ (tQ T I J) n) ∧ kTot T n I J = Int64.ofInt (toZ (tQ T I J) n) ∧ kWo T n I J = Int64.ofInt (woZ (tQ T I J) n) ∧ (∀ k, kCw T n I J k = Int64.ofInt (cwZ (tQ T I J) n k)) ∧ (∀ k, kRw T n I J k = Int64.ofInt (rwZ (tQ T I J) n k)) ∧ (xM T n I J (n + 1) (n + 1)).toInt = xZ (tQ T I J) n (n + 1) (n + 1) := by
  obtain ⟨h1, h2, h3, h4⟩ := xb n hn _ ht
  have hx : ∀ r c, xM T n I J r c = Int64.ofInt (xZ (tQ T I J) n r c) := fun r c => xZ_ok T n I J r c
  have hW : (xM T n I J (n + 1) (n + 1)).toInt = xZ (tQ T I J) n (n + 1) (n + 1) := by rw [hx, ti_ofI]; apply bm_fit; unfold fit; omega
  have hs : kSg T n I J = Int64.ofInt (sgZ (tQ T I J) n) := by
    unfold kSg sgZ
    by_cases e : xZ (tQ T I J) n (n + 1) (n + 1) ≤ 0
    · have e2 : xM T n I J (n + 1) (n + 1) ≤ 0 := by rw [le64, hW]; exact e
      rw [if_pos e, if_pos e2]; rfl
    · have e2 : ¬ xM T n I J (n + 1) (n + 1) ≤ 0 := by rw [le64, hW]; exact e
      rw [if_neg e, if_neg e2]; rfl
  refine ⟨hs, ?_, ?_, fun k => ?_, fun k => ?_, hW⟩
  · unfold kTot toZ; rw [hx, hs, Int64.ofInt_mul]
  · unfold kWo woZ; rw [hx, hs, Int64.ofInt_mul, Int64.ofInt_neg]
  · unfold kCw cwZ; rw [hx, hs, Int64.ofInt_mul]
    split
    · rfl
    · rw [Int64.ofInt_neg]
  · unfold kRw rwZ; rw [hx, hs, Int64.ofInt_mul]
    split
    · rfl
    · rw [Int64.ofInt_neg]
theorem sm_cast (F : Nat → Int) : ∀ n, ((smZ F n : Int) : Rat) = sm n (fun k => ((F k : Int) : Rat))
  | 0 => by rw [smZ, sm]; rfl
  | n + 1 => by rw [smZ, sm, ← sm_cast F n]; push_cast; rfl
/-- the kernel's numbers, all above 0 -/
theorem kr_pos {A : Nat → Nat → Rat} {n : Nat} {q x : Nat → Rat} {t : Nat → Nat → Int} {s : Rat} (hR : KR A n q x t s) (hS : 0 < sm n q) : ∃ D : Rat, 0 < D ∧ (∀ k, k < n → ((cwZ t n k : Int) : Rat) = D * q k) ∧ (∀ k, k < n → ((rwZ t n k : Int) : Rat) = D * x k) ∧ ((toZ t n : Int) : Rat) = D * sm n q ∧ ((woZ t n : Int) : Rat) = D * (1 - s * sm n q) ∧ sm n q = sm n x := by
  obtain ⟨d, d0, h1, h2, h3, h4, h5⟩ := hR
  have hW : (xZ t n (n + 1) (n + 1) ≤ 0) = (((xZ t n (n + 1) (n + 1) : Int) : Rat) ≤ 0) := by
    apply propext; constructor
    · intro h; exact_mod_cast h
    · intro h; exact_mod_cast h
  by_cases hd : 0 < d
  · have hsg : sgZ t n = -1 := by
      unfold sgZ
      rw [if_pos]
      rw [hW, h3]
      have := Rat.mul_pos hd hS
      grind
    refine ⟨d, hd, fun k hk => ?_, fun k hk => ?_, ?_, ?_, h5⟩
    · unfold cwZ; rw [hsg]
      by_cases e : (n + k) % 2 = 0
      · have := h1 k hk
        rw [if_pos e] at this ⊢
        push_cast; rw [this]; grind
      · have := h1 k hk
        rw [if_neg e] at this ⊢
        push_cast; rw [this]; grind
    · unfold rwZ; rw [hsg]
      by_cases e : (n + k) % 2 = 0
      · have := h2 k hk
        rw [if_pos e] at this ⊢
        push_cast; rw [this]; grind
      · have := h2 k hk
        rw [if_neg e] at this ⊢
        push_cast; rw [this]; grind
    · unfold toZ; rw [hsg]; push_cast; rw [h3]; grind
    · unfold woZ; rw [hsg]; push_cast; rw [h4]; grind
  · have hd2 : 0 < -d := by grind
    have hsg : sgZ t n = 1 := by
      unfold sgZ
      rw [if_neg]
      rw [hW, h3]
      have := Rat.mul_pos hd2 hS
      grind
    refine ⟨-d, hd2, fun k hk => ?_, fun k hk => ?_, ?_, ?_, h5⟩
    · unfold cwZ; rw [hsg]
      by_cases e : (n + k) % 2 = 0
      · have := h1 k hk
        rw [if_pos e] at this ⊢
        push_cast; rw [this]; grind
      · have := h1 k hk
        rw [if_neg e] at this ⊢
        push_cast; rw [this]; grind
    · unfold rwZ; rw [hsg]
      by_cases e : (n + k) % 2 = 0
      · have := h2 k hk
        rw [if_pos e] at this ⊢
        push_cast; rw [this]; grind
      · have := h2 k hk
        rw [if_neg e] at this ⊢
        push_cast; rw [this]; grind
    · unfold toZ; rw [hsg]; push_cast; rw [h3]; grind
    · unfold woZ; rw [hsg]; push_cast; rw [h4]; grind
theorem sm_pos {A : Nat → Rat} {q : Nat → Rat} {n : Nat} (hq : ∀ k, k < n → 0 ≤ q k) (h1 : sm n (fun k => q k * A k) = 1) : 0 < sm n q := by
  have h0 := sm_nonneg hq
  rcases (by grind : 0 < sm n q ∨ sm n q = 0) with h | h
  · exact h
  · exfalso
    have hz : ∀ k, k < n → q k = 0 := fun k hk => by
      have g1 := sm_ge hk hq
      have g2 := hq k hk
      rw [h] at g1; grind
    have : sm n (fun k => q k * A k) = sm n (fun _ => 0) := sm_congr (fun k hk => by rw [hz k hk]; grind)
    rw [this, sm_zero] at h1
    grind
