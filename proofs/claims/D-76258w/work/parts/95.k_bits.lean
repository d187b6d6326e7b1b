/-! PLAIN LAW, 66: counting marks -/
set_option maxRecDepth 100000
theorem shr_of {x k : Nat} {e : UInt32} (hx : x < 2 ^ 31) (hk : k < 32) (he : e.toNat = k) : ((Int32.ofNat x).toUInt32 >>> e).toInt32 = Int32.ofNat (x / 2 ^ k) := by
  apply Int32.toBitVec_inj.mp
  apply BitVec.eq_of_toNat_eq
  show (UInt32.ofNat x >>> e).toNat = (BitVec.ofNat 32 (x / 2 ^ k)).toNat
  have h2 : x / 2 ^ k ≤ x := Nat.div_le_self _ _
  rw [UInt32.toNat_shiftRight, he, Nat.mod_eq_of_lt hk, UInt32.toNat_ofNat', BitVec.toNat_ofNat, Nat.mod_eq_of_lt (show x < 2 ^ 32 by omega), Nat.shiftRight_eq_div_pow, Nat.mod_eq_of_lt (show x / 2 ^ k < 2 ^ 32 by omega)]
theorem and_of {x y : Nat} (hx : x < 2 ^ 32) (hy : y < 2 ^ 32) : Int32.ofNat x &&& Int32.ofNat y = Int32.ofNat (x &&& y) := by
  apply Int32.toBitVec_inj.mp
  apply BitVec.eq_of_toNat_eq
  show (BitVec.ofNat 32 x &&& BitVec.ofNat 32 y).toNat = (BitVec.ofNat 32 (x &&& y)).toNat
  have h2 : x &&& y ≤ x := Nat.and_le_left
  rw [BitVec.toNat_and, BitVec.toNat_ofNat, BitVec.toNat_ofNat, BitVec.toNat_ofNat, Nat.mod_eq_of_lt hx, Nat.mod_eq_of_lt hy, Nat.mod_eq_of_lt (by omega)]
theorem not_of {x : Nat} (hx : x < 2 ^ 32) : Int32.ofNat x ^^^ (-1) = Int32.ofNat (4294967295 - x) := by
  apply Int32.toBitVec_inj.mp
  show BitVec.ofNat 32 x ^^^ (-1 : Int32).toBitVec = BitVec.ofNat 32 (4294967295 - x)
  rw [show (-1 : Int32).toBitVec = BitVec.allOnes 32 from by decide, BitVec.xor_allOnes]
  apply BitVec.eq_of_toNat_eq
  rw [BitVec.toNat_not, BitVec.toNat_ofNat, BitVec.toNat_ofNat, Nat.mod_eq_of_lt hx, Nat.mod_eq_of_lt (show 4294967295 - x < 2 ^ 32 by omega)]
/-- the count of marks, by the library's steps -/
def b1N (m : Nat) : Nat := Nat.sub m (Nat.land (Nat.div m 2) 1431655765)
def b3N (v : Nat) : Nat := Nat.add (Nat.land v 858993459) (Nat.land (Nat.div v 4) 858993459)
def b5N (v : Nat) : Nat := Nat.land (Nat.add v (Nat.div v 16)) 252645135
def b7N (v : Nat) : Nat := Nat.add v (Nat.div v 256)
def b9N (v : Nat) : Nat := Nat.land (Nat.add v (Nat.div v 65536)) 63
def bNN (m : Nat) : Nat := b9N (b7N (b5N (b3N (b1N m))))
def bcM (p : Int32) : Int32 := bc9 (bc7 (bc5 (bc3 (bc1 p)))) &&& 63
theorem s_bcM {Φ : Int32 → Prop} {p : Int32} (h : Φ (bcM p)) : w_J7_bitCount p Φ := by
  unfold w_J7_bitCount
  rintro v1 e1 v3 e3 v5 e5 v7 e7 v9 e9
  have f1 : v1 = bc1 p := e1
  have f3 : v3 = bc3 v1 := e3
  have f5 : v5 = bc5 v3 := e5
  have f7 : v7 = bc7 v5 := e7
  have f9 : v9 = bc9 v7 := e9
  rw [f9, f7, f5, f3, f1]; exact h
theorem b1_of {m : Nat} (h : m < 65536) : bc1 (Int32.ofNat m) = Int32.ofNat (b1N m) := by
  unfold bc1
  have a1 : m / 2 &&& 1431655765 ≤ m / 2 := Nat.and_le_left
  rw [shr_of (k := 1) (by omega) (by omega) (by decide), show (1431655765 : Int32) = Int32.ofNat 1431655765 from rfl, and_of (by omega) (by omega), sub_of (show m / 2 ^ 1 &&& 1431655765 ≤ m by show m / 2 &&& _ ≤ m; omega) (by omega)]
  rfl
theorem b3_of {m : Nat} (h : m < 65536) : bc3 (Int32.ofNat m) = Int32.ofNat (b3N m) := by
  unfold bc3
  rw [shr_of (k := 2) (by omega) (by omega) (by decide), show (858993459 : Int32) = Int32.ofNat 858993459 from rfl, and_of (by omega) (by omega), and_of (by omega) (by omega), ← Int32.ofNat_add]
  rfl
theorem b5_of {m : Nat} (h : m < 1000000) : bc5 (Int32.ofNat m) = Int32.ofNat (b5N m) := by
  unfold bc5
  rw [shr_of (k := 4) (by omega) (by omega) (by decide), show (252645135 : Int32) = Int32.ofNat 252645135 from rfl, ← Int32.ofNat_add, and_of (by omega) (by omega)]
  rfl
theorem b7_of {m : Nat} (h : m < 2000000) : bc7 (Int32.ofNat m) = Int32.ofNat (b7N m) := by
  unfold bc7
  rw [shr_of (k := 8) (by omega) (by omega) (by decide), ← Int32.ofNat_add]
  rfl
theorem b9_of {m : Nat} (h : m < 4000000) : bc9 (Int32.ofNat m) &&& 63 = Int32.ofNat (b9N m) := by
  unfold bc9
  rw [shr_of (k := 16) (by omega) (by omega) (by decide), ← Int32.ofNat_add, show (63 : Int32) = Int32.ofNat 63 from rfl, and_of (by omega) (by omega)]
  rfl
theorem bN_of {m : Nat} (h : m < 65536) : bcM (Int32.ofNat m) = Int32.ofNat (bNN m) := by
  have h1 : b1N m ≤ m := Nat.sub_le _ _
  have h3 : b3N (b1N m) ≤ b1N m + b1N m / 4 := Nat.add_le_add Nat.and_le_left Nat.and_le_left
  have h5 : b5N (b3N (b1N m)) ≤ b3N (b1N m) + b3N (b1N m) / 16 := Nat.and_le_left
  have h7 : b7N (b5N (b3N (b1N m))) = b5N (b3N (b1N m)) + b5N (b3N (b1N m)) / 256 := rfl
  unfold bcM
  rw [b1_of h, b3_of (by omega), b5_of (by omega), b7_of (by omega), b9_of (by omega)]
  rfl
def pcM (m : Nat) : Nat → Nat
  | 0 => 0
  | i + 1 => pcM m i + (if m.testBit i then 1 else 0)
def fzN (m : Nat) : Nat → Nat → Nat
  | 0, i => i
  | f + 1, i => if m.testBit i then i else fzN m f (i + 1)
def pEn (m : Nat) : Nat := Nat.add (Nat.add (Nat.add (Nat.add (Nat.add (Nat.add (Nat.add (Nat.add (Nat.add (Nat.add (Nat.add (Nat.add (Nat.add (Nat.add (Nat.mod m 2) (Nat.mod (Nat.div m 2) 2)) (Nat.mod (Nat.div m 4) 2)) (Nat.mod (Nat.div m 8) 2)) (Nat.mod (Nat.div m 16) 2)) (Nat.mod (Nat.div m 32) 2)) (Nat.mod (Nat.div m 64) 2)) (Nat.mod (Nat.div m 128) 2)) (Nat.mod (Nat.div m 256) 2)) (Nat.mod (Nat.div m 512) 2)) (Nat.mod (Nat.div m 1024) 2)) (Nat.mod (Nat.div m 2048) 2)) (Nat.mod (Nat.div m 4096) 2)) (Nat.mod (Nat.div m 8192) 2)) (Nat.mod (Nat.div m 16384) 2)
theorem pc_bit {m i : Nat} : (if m.testBit i then 1 else 0) = m / 2 ^ i % 2 := by
  rw [Nat.testBit_eq_decide_div_mod_eq]
  by_cases h : m / 2 ^ i % 2 = 1
  · rw [decide_eq_true h, if_pos rfl, h]
  · rw [decide_eq_false h, if_neg (by decide)]; omega
theorem pc_E {m : Nat} : pcM m 15 = pEn m := by
  simp only [pcM, pc_bit]
  show 0 + m / 1 % 2 + _ + _ + _ + _ + _ + _ + _ + _ + _ + _ + _ + _ + _ + _ = _
  rw [Nat.div_one, Nat.zero_add]
  rfl
def vN (m : Nat) : Nat := Nat.land (Nat.sub 4294967295 m) (Nat.sub m 1)
def kN (m : Nat) : Nat := Nat.log2 (Nat.add (vN m) 1)
def chN (m : Nat) : Bool := Nat.beq (bNN m) (pEn m) && (Nat.beq m 0 || (Nat.ble (kN m) 14 && (Nat.beq (Nat.pow 2 (kN m)) (Nat.add (vN m) 1) && (Nat.beq (Nat.mod m (Nat.pow 2 (kN m))) 0 && Nat.beq (Nat.mod (Nat.div m (Nat.pow 2 (kN m))) 2) 1))))
def chR (c : Nat) : Bool := (List.range 32).all fun i => (List.range 32).all fun j => chN (c + (32 * i + j))
theorem ch_0 : chR 0 = true := by decide +kernel
theorem ch_1 : chR 1024 = true := by decide +kernel
theorem ch_2 : chR 2048 = true := by decide +kernel
theorem ch_3 : chR 3072 = true := by decide +kernel
theorem ch_4 : chR 4096 = true := by decide +kernel
theorem ch_5 : chR 5120 = true := by decide +kernel
theorem ch_6 : chR 6144 = true := by decide +kernel
theorem ch_7 : chR 7168 = true := by decide +kernel
theorem ch_8 : chR 8192 = true := by decide +kernel
theorem ch_9 : chR 9216 = true := by decide +kernel
theorem ch_10 : chR 10240 = true := by decide +kernel
theorem ch_11 : chR 11264 = true := by decide +kernel
theorem ch_12 : chR 12288 = true := by decide +kernel
theorem ch_13 : chR 13312 = true := by decide +kernel
theorem ch_14 : chR 14336 = true := by decide +kernel
theorem ch_15 : chR 15360 = true := by decide +kernel
theorem ch_16 : chR 16384 = true := by decide +kernel
theorem ch_17 : chR 17408 = true := by decide +kernel
theorem ch_18 : chR 18432 = true := by decide +kernel
theorem ch_19 : chR 19456 = true := by decide +kernel
theorem ch_20 : chR 20480 = true := by decide +kernel
theorem ch_21 : chR 21504 = true := by decide +kernel
theorem ch_22 : chR 22528 = true := by decide +kernel
theorem ch_23 : chR 23552 = true := by decide +kernel
theorem ch_24 : chR 24576 = true := by decide +kernel
theorem ch_25 : chR 25600 = true := by decide +kernel
theorem ch_26 : chR 26624 = true := by decide +kernel
theorem ch_27 : chR 27648 = true := by decide +kernel
theorem ch_28 : chR 28672 = true := by decide +kernel
theorem ch_29 : chR 29696 = true := by decide +kernel
theorem ch_30 : chR 30720 = true := by decide +kernel
theorem ch_31 : chR 31744 = true := by decide +kernel
theorem ch_all : ∀ c, c < 32 → chR (1024 * c) = true
  | 0, _ => ch_0
  | 1, _ => ch_1
  | 2, _ => ch_2
  | 3, _ => ch_3
  | 4, _ => ch_4
  | 5, _ => ch_5
  | 6, _ => ch_6
  | 7, _ => ch_7
  | 8, _ => ch_8
  | 9, _ => ch_9
  | 10, _ => ch_10
  | 11, _ => ch_11
  | 12, _ => ch_12
  | 13, _ => ch_13
  | 14, _ => ch_14
  | 15, _ => ch_15
  | 16, _ => ch_16
  | 17, _ => ch_17
  | 18, _ => ch_18
  | 19, _ => ch_19
  | 20, _ => ch_20
  | 21, _ => ch_21
  | 22, _ => ch_22
  | 23, _ => ch_23
  | 24, _ => ch_24
  | 25, _ => ch_25
  | 26, _ => ch_26
  | 27, _ => ch_27
  | 28, _ => ch_28
  | 29, _ => ch_29
  | 30, _ => ch_30
  | 31, _ => ch_31
  | c + 32, h => absurd h (by omega)
theorem ch_at {m : Nat} (h : m < 32768) : chN m = true := by
  have h1 := ch_all (m / 1024) (by omega)
  unfold chR at h1
  have h2 := List.all_eq_true.mp (List.all_eq_true.mp h1 (m % 1024 / 32) (List.mem_range.mpr (by omega))) (m % 32) (List.mem_range.mpr (by omega))
  rw [show 1024 * (m / 1024) + (32 * (m % 1024 / 32) + m % 32) = m by omega] at h2
  exact h2
theorem fz_at {m q : Nat} (hq : m.testBit q = true) (hb : ∀ j, j < q → m.testBit j = false) : ∀ f i, i ≤ q → q < i + f → fzN m f i = q
  | 0, i, h1, h2 => absurd h2 (by omega)
  | f + 1, i, h1, h2 => by
    rw [fzN]
    by_cases e : i = q
    · subst e; rw [if_pos hq]
    · rw [if_neg (by rw [hb i (by omega)]; decide)]
      exact fz_at hq hb f (i + 1) (by omega) (by omega)
theorem ntz_p : ∀ k, k < 15 → ∀ p : Int32, (p ^^^ (-1)) &&& (p - 1) = Int32.ofNat (2 ^ k - 1) → ntzF p = Int32.ofNat k := by
  intro k hk p h
  have e : ∀ k, k < 15 → ntzV (Int32.ofNat (2 ^ k - 1)) = Int32.ofNat k := by decide +kernel
  show ntzV ((p ^^^ (-1)) &&& (p - 1)) = _
  rw [h]; exact e k hk
theorem bcM_at {m : Nat} (h : m < 32768) : bcM (Int32.ofNat m) = Int32.ofNat (pcM m 15) ∧ (m ≠ 0 → ntzF (Int32.ofNat m) = Int32.ofNat (fzN m 15 0)) := by
  have h1 := ch_at h
  unfold chN at h1
  obtain ⟨h2, h3⟩ := Bool.and_eq_true_iff.mp h1
  refine ⟨by rw [bN_of (by omega), pc_E, Nat.eq_of_beq_eq_true h2], fun h0 => ?_⟩
  rcases Bool.or_eq_true_iff.mp h3 with h4 | h4
  · exact absurd (Nat.eq_of_beq_eq_true h4) h0
  obtain ⟨k1, h5⟩ := Bool.and_eq_true_iff.mp h4
  obtain ⟨k2, h6⟩ := Bool.and_eq_true_iff.mp h5
  obtain ⟨k3, k4⟩ := Bool.and_eq_true_iff.mp h6
  have g1 : kN m ≤ 14 := Nat.le_of_ble_eq_true k1
  have g2 : 2 ^ kN m = vN m + 1 := Nat.eq_of_beq_eq_true k2
  have g3 : m % 2 ^ kN m = 0 := Nat.eq_of_beq_eq_true k3
  have g4 : m / 2 ^ kN m % 2 = 1 := Nat.eq_of_beq_eq_true k4
  generalize hk : kN m = k at g1 g2 g3 g4
  have hv : (Int32.ofNat m ^^^ (-1)) &&& (Int32.ofNat m - 1) = Int32.ofNat (2 ^ k - 1) := by
    rw [not_of (by omega), sub1n (by omega) (by omega), and_of (by omega) (by omega), g2, Nat.add_sub_cancel]
    rfl
  rw [ntz_p k (by omega) _ hv]
  congr 1
  refine (fz_at ?_ (fun j hj => ?_) 15 0 (by omega) (by omega)).symm
  · rw [Nat.testBit_eq_decide_div_mod_eq, g4]; rfl
  · rw [Nat.testBit_eq_decide_div_mod_eq]
    refine decide_eq_false (fun hc => ?_)
    obtain ⟨t, ht⟩ := Nat.dvd_of_mod_eq_zero g3
    have e1 : 2 ^ k = 2 ^ j * (2 * 2 ^ (k - j - 1)) := by
      rw [← Nat.pow_succ', ← Nat.pow_add]; congr 1; omega
    rw [ht, e1, Nat.mul_assoc, Nat.mul_div_cancel_left _ (Nat.pos_of_ne_zero (by have := Nat.pow_pos (n := j) (show 0 < 2 by omega); omega)), Nat.mul_assoc, Nat.mul_mod_right] at hc
    cases hc
