/-! PLAIN LAW, 4: numbers in bounds, errors on both sides, the start -/
set_option maxRecDepth 100000
theorem ti_64 {z : Int} (h1 : -(2 ^ 63) ≤ z) (h2 : z < 2 ^ 63) : (Int64.ofInt z).toInt = z := by
  rw [Int64.toInt_ofInt]; rw [show Int64.size = 18446744073709551616 from rfl]; exact Int.bmod_eq_of_le (by omega) (by omega)
theorem ti_of {n : Nat} (h : n < 2 ^ 31) : (Int32.ofNat n).toInt = (n : Int) := Int32.toInt_ofNat_of_lt h
theorem inB_i {p : Int32} {a b : Int} (ha1 : -(2 ^ 63) ≤ a) (ha2 : a < 2 ^ 63) (hb1 : -(2 ^ 63) ≤ b) (hb2 : b < 2 ^ 63) : inB p.toInt64 (Int64.ofInt a) (Int64.ofInt b) = decide (a ≤ p.toInt ∧ p.toInt ≤ b) := by
  unfold inB
  have e1 : (Int64.ofInt a ≤ p.toInt64) = (a ≤ p.toInt) := by
    rw [Int64.le_iff_toInt_le, ti_64 ha1 ha2, Int32.toInt_toInt64]
  have e2 : (p.toInt64 ≤ Int64.ofInt b) = (p.toInt ≤ b) := by
    rw [Int64.le_iff_toInt_le, ti_64 hb1 hb2, Int32.toInt_toInt64]
  simp only [e1, e2, Bool.decide_and]
theorem of_ti {p : Int32} (h : 0 ≤ p.toInt) : ∃ n : Nat, p = Int32.ofNat n ∧ (n : Int) = p.toInt ∧ n < 2 ^ 31 := by
  have h2 := Int32.toInt_lt p
  refine ⟨p.toInt.toNat, ?_, by omega, by omega⟩
  apply Int32.toInt_inj.mp
  rw [ti_of (by omega)]; omega
/-- a number told in bounds from 0 -/
theorem inB_nat {p : Int32} {b : Int64} {m : Nat} (hm : m < 2 ^ 31) (hb : b = Int64.ofInt m) (h : inB p.toInt64 0 b = true) : ∃ n, n ≤ m ∧ p = Int32.ofNat n := by
  rw [hb, show (0 : Int64) = Int64.ofInt 0 from rfl, inB_i (by omega) (by omega) (by omega) (by omega)] at h
  have h := of_decide_eq_true h
  obtain ⟨n, e1, e2, e3⟩ := of_ti h.1
  exact ⟨n, by omega, e1⟩
theorem inB_of {n : Nat} {b : Int64} {m : Nat} (hn : n < 2 ^ 31) (hm : m < 2 ^ 31) (hb : b = Int64.ofInt m) : inB (Int32.ofNat n).toInt64 0 b = decide (n ≤ m) := by
  rw [hb, show (0 : Int64) = Int64.ofInt 0 from rfl, inB_i (by omega) (by omega) (by omega) (by omega), ti_of hn]
  have : (0 ≤ (n : Int) ∧ (n : Int) ≤ (m : Int)) = (n ≤ m) := propext ⟨fun h => by omega, fun h => by omega⟩
  simp only [this]
/-- the bound less one -/
theorem sub1_64 {k : Nat} (h1 : 1 ≤ k) (h2 : k < 2 ^ 31) : (Int32.ofNat k - 1).toInt64 = Int64.ofInt ((k - 1 : Nat) : Int) := by
  have e : Int32.ofNat k - 1 = Int32.ofNat (k - 1) := by
    apply Int32.toInt_inj.mp
    rw [Int32.toInt_sub, ti_of h2, ti_of (by omega)]
    have : (1 : Int32).toInt = 1 := by decide
    rw [this, Int.bmod_eq_of_le (by omega) (by omega)]; omega
  rw [e]
  apply Int64.toInt_inj.mp
  rw [Int32.toInt_toInt64, ti_of (by omega), ti_64 (by omega) (by omega)]
/-- 'p < 0', 'k ≤ p' -/
theorem lt0_le {p : Int32} {k : Nat} {Φ : Int32 → Prop} (h1 : 1 ≤ k) (h2 : k < 2 ^ 31) : ((p < 0 → Φ 0) ∧ (¬ p < 0 → (Int32.ofNat k ≤ p → Φ 0) ∧ (¬ Int32.ofNat k ≤ p → Φ 1))) = Φ (ib (inB p.toInt64 0 (Int64.ofInt ((k - 1 : Nat) : Int)))) := by
  rw [show (0 : Int64) = Int64.ofInt 0 from rfl, inB_i (by omega) (by omega) (by omega) (by omega)]
  have e1 : (p < 0) = (p.toInt < 0) := by rw [Int32.lt_iff_toInt_lt]; rfl
  have e2 : (Int32.ofNat k ≤ p) = ((k : Int) ≤ p.toInt) := by rw [Int32.le_iff_toInt_le, ti_of h2]
  rw [e1, e2]
  by_cases g1 : p.toInt < 0
  · have : ¬ (0 ≤ p.toInt ∧ p.toInt ≤ ((k - 1 : Nat) : Int)) := by omega
    simp [g1, this, ib]
  · by_cases g2 : (k : Int) ≤ p.toInt
    · have : ¬ (0 ≤ p.toInt ∧ p.toInt ≤ ((k - 1 : Nat) : Int)) := by omega
      simp only [g1, g2, this, ib]; simp
    · have : (0 ≤ p.toInt ∧ p.toInt ≤ ((k - 1 : Nat) : Int)) := by omega
      simp only [g1, g2, this, ib]; simp
/-! errors -/
def wE (a k : Nat) : Nat → Nat → Prop := fun x j => x = a ∧ j = k
theorem x_err {st st1 : St} {k : Nat} {Φ : St → Int32 → Prop} (hk : k < 9) {x y : Nat} {e : Nat} (h1 : Fr noW x y st st1) (he : sN st ≤ e) (h2 : sI st1 e 6 = Int32.ofNat k) (hN : 201 ≤ sN st) (h : ∀ st2, Fr (wE 1 k) x y st st2 → sI st2 1 k = sI st 1 k + 1 → Φ st2 ((-1000000000) - Int32.ofNat k)) : w_X0_answers st1 e Φ := by
  unfold w_X0_answers
  rw [h2, vp_of (by omega), nn_of (by omega)]
  refine ⟨hk, ?_⟩
  rintro _ rfl
  rw [gI_pI, if_neg (by omega), h2]
  refine h _ (Fr_I (Fr_mo h1 (fun _ _ h => h.elim) (Nat.le_refl _) (Nat.le_refl _)) (Or.inl ⟨rfl, rfl⟩)) ?_
  rw [gI_pI, if_pos ⟨rfl, rfl⟩, (fr_at h1 (Or.inl (by omega)) (fun h => h)).1]
theorem x_errL {st st1 : St} {k : Nat} {Φ : St → Int64 → Prop} (hk : k < 9) {x y : Nat} {e : Nat} (h1 : Fr noW x y st st1) (he : sN st ≤ e) (h2 : sI st1 e 6 = Int32.ofNat k) (hN : 201 ≤ sN st) (h : ∀ st2, Fr (wE 1 k) x y st st2 → sI st2 1 k = sI st 1 k + 1 → Φ st2 ((-9000000000000000000) - (Int32.ofNat k).toInt64)) : w_X0_answersFar st1 e Φ := by
  unfold w_X0_answersFar
  rw [h2, vp_of (by omega), nn_of (by omega)]
  refine ⟨hk, ?_⟩
  rintro _ rfl
  rw [gI_pI, if_neg (by omega), h2]
  refine h _ (Fr_I (Fr_mo h1 (fun _ _ h => h.elim) (Nat.le_refl _) (Nat.le_refl _)) (Or.inl ⟨rfl, rfl⟩)) ?_
  rw [gI_pI, if_pos ⟨rfl, rfl⟩, (fr_at h1 (Or.inl (by omega)) (fun h => h)).1]
theorem m_err {st : St} {k : Nat} {Φ : St → Int32 → Prop} (hk : k < 9) (h : ∀ st2, Fr (wE 176 k) 0 0 st st2 → sI st2 176 k = sI st 176 k + 1 → Φ st2 ((-1000000000) - Int32.ofNat k)) : w_X4_finds st (Int32.ofNat k) Φ := by
  unfold w_X4_finds
  rw [vp_of (by omega), nn_of (by omega)]
  refine ⟨hk, ?_⟩
  rintro _ rfl
  refine h _ (Fr_I Fr_rf (Or.inl ⟨rfl, rfl⟩)) ?_
  rw [gI_pI, if_pos ⟨rfl, rfl⟩]
theorem m_errL {st : St} {k : Nat} {Φ : St → Int64 → Prop} (hk : k < 9) (h : ∀ st2, Fr (wE 176 k) 0 0 st st2 → sI st2 176 k = sI st 176 k + 1 → Φ st2 ((-9000000000000000000) - (Int32.ofNat k).toInt64)) : w_X4_findsFar st (Int32.ofNat k) Φ := by
  unfold w_X4_findsFar
  rw [vp_of (by omega), nn_of (by omega)]
  refine ⟨hk, ?_⟩
  rintro _ rfl
  refine h _ (Fr_I Fr_rf (Or.inl ⟨rfl, rfl⟩)) ?_
  rw [gI_pI, if_pos ⟨rfl, rfl⟩]
/-- an error counted on both sides, beside cells that no part rests on -/
theorem err_fin {b : Nat} {st s2 s3 : St} {k x1 y1 x2 y2 : Nat} {W1 W2 : Nat → Nat → Prop} (hk : k < 9) (hI : Inv (b + 1) st) (f1 : Fr W1 x1 y1 st s2) (f2 : Fr W2 x2 y2 s2 s3) (e1 : sI s2 1 k = sI st 1 k + 1) (e2 : sI s3 176 k = sI s2 176 k + 1) (hx : x1 + x2 ≤ 49990) (hy : y1 + y2 ≤ 228000)
    (hW1 : ∀ a j, W1 a j → a < 201 ∧ ((a = 1 ∧ j = k) ∨ (¬ REr a j ∧ ¬ RHr 2 177 a j ∧ ¬ RIm a j ∧ ¬ RZz a j ∧ ¬ RPy a j ∧ ¬ RTp a j ∧ ¬ RLi a j ∧ ¬ RSx a j ∧ ¬ RNt a j))) (hW2 : ∀ a j, W2 a j → a < 201 ∧ ((a = 176 ∧ j = k) ∨ (¬ REr a j ∧ ¬ RHr 2 177 a j ∧ ¬ RIm a j ∧ ¬ RZz a j ∧ ¬ RPy a j ∧ ¬ RTp a j ∧ ¬ RLi a j ∧ ¬ RSx a j ∧ ¬ RNt a j))) : Inv b s3 := by
  have hN := hI.1.1
  have hN2 : 201 ≤ sN s2 := Nat.le_trans hN f1.1
  have g1 : Fr (fun a j => W1 a j ∨ W2 a j) x1 y1 st s2 := Fr_mo f1 (fun _ _ h => Or.inl h) (Nat.le_refl _) (Nat.le_refl _)
  have g2 : Fr (fun a j => W1 a j ∨ W2 a j) x2 y2 s2 s3 := Fr_mo f2 (fun _ _ h => Or.inr h) (Nat.le_refl _) (Nat.le_refl _)
  have hF := Fr_tr g1 g2
  obtain ⟨r1, r2, r3, r4, r5, r6, r7, r8, r9, r10, r11⟩ := Inv_fr hI hF hx hy (fun a j ha hw => by
    rcases hw with hw | hw
    · have := (hW1 a j hw).1; omega
    · have := (hW2 a j hw).1; omega)
  have nn : ∀ {R : Nat → Nat → Prop}, (∀ j, ¬ R 1 j) → (∀ j, ¬ R 176 j) → (∀ a j, W1 a j → ¬ (a = 1 ∧ j = k) → ¬ R a j) → (∀ a j, W2 a j → ¬ (a = 176 ∧ j = k) → ¬ R a j) → ∀ a j, R a j → ¬ (W1 a j ∨ W2 a j) := fun {R} q1 q2 q3 q4 a j hR hw => by
    rcases hw with hw | hw
    · by_cases e : a = 1 ∧ j = k
      · obtain ⟨rfl, rfl⟩ := e; exact q1 _ hR
      · exact q3 a j hw e hR
    · by_cases e : a = 176 ∧ j = k
      · obtain ⟨rfl, rfl⟩ := e; exact q2 _ hR
      · exact q4 a j hw e hR
  have p1 : ∀ a j, W1 a j → ¬ (a = 1 ∧ j = k) → (¬ REr a j ∧ ¬ RHr 2 177 a j ∧ ¬ RIm a j ∧ ¬ RZz a j ∧ ¬ RPy a j ∧ ¬ RTp a j ∧ ¬ RLi a j ∧ ¬ RSx a j ∧ ¬ RNt a j) := fun a j h hn => (hW1 a j h).2.resolve_left hn
  have p2 : ∀ a j, W2 a j → ¬ (a = 176 ∧ j = k) → (¬ REr a j ∧ ¬ RHr 2 177 a j ∧ ¬ RIm a j ∧ ¬ RZz a j ∧ ¬ RPy a j ∧ ¬ RTp a j ∧ ¬ RLi a j ∧ ¬ RSx a j ∧ ¬ RNt a j) := fun a j h hn => (hW2 a j h).2.resolve_left hn
  refine ⟨r1, r2, fun i hi => ?_, r4 (nn (fun j h => by unfold RHr at h; omega) (fun j h => by unfold RHr at h; omega) (fun a j h hn => (p1 a j h hn).2.1) (fun a j h hn => (p2 a j h hn).2.1)), r5 (nn (fun j h => by unfold RIm at h; omega) (fun j h => by unfold RIm at h; omega) (fun a j h hn => (p1 a j h hn).2.2.1) (fun a j h hn => (p2 a j h hn).2.2.1)), r6 (nn (fun j h => by unfold RZz at h; omega) (fun j h => by unfold RZz at h; omega) (fun a j h hn => (p1 a j h hn).2.2.2.1) (fun a j h hn => (p2 a j h hn).2.2.2.1)), r7 (nn (fun j h => by unfold RPy at h; omega) (fun j h => by unfold RPy at h; omega) (fun a j h hn => (p1 a j h hn).2.2.2.2.1) (fun a j h hn => (p2 a j h hn).2.2.2.2.1)), r8 (nn (fun j h => by unfold RTp at h; omega) (fun j h => by unfold RTp at h; omega) (fun a j h hn => (p1 a j h hn).2.2.2.2.2.1) (fun a j h hn => (p2 a j h hn).2.2.2.2.2.1)), r9 (nn (fun j h => by unfold RLi at h; omega) (fun j h => by unfold RLi at h; omega) (fun a j h hn => (p1 a j h hn).2.2.2.2.2.2.1) (fun a j h hn => (p2 a j h hn).2.2.2.2.2.2.1)), r10 (nn (fun j h => by unfold RSx at h; omega) (fun j h => by unfold RSx at h; omega) (fun a j h hn => (p1 a j h hn).2.2.2.2.2.2.2.1) (fun a j h hn => (p2 a j h hn).2.2.2.2.2.2.2.1)), r11 (nn (fun j h => by unfold RNt at h; omega) (fun j h => by unfold RNt at h; omega) (fun a j h hn => (p1 a j h hn).2.2.2.2.2.2.2.2) (fun a j h hn => (p2 a j h hn).2.2.2.2.2.2.2.2))⟩
  have hE := hI.2.2.1 i hi
  have n1 : ∀ j, ¬ W2 1 j := fun j h => by
    have q := (hW2 1 j h).2
    rcases q with q | q
    · omega
    · exact q.1 (Or.inl rfl)
  have n2 : ∀ j, ¬ W1 176 j := fun j h => by
    have q := (hW1 176 j h).2
    rcases q with q | q
    · omega
    · exact q.1 (Or.inr rfl)
  have a1 : ∀ j, sI s3 1 j = sI s2 1 j := fun j => (fr_at f2 (Or.inl (by omega)) (n1 j)).1
  have a2 : ∀ j, sI s2 176 j = sI st 176 j := fun j => (fr_at f1 (Or.inl (by omega)) (n2 j)).1
  by_cases e : i = k
  · subst e
    rw [a1, e1, e2, a2, hE]
  · have b1 : sI s2 1 i = sI st 1 i := (fr_at f1 (Or.inl (by omega)) (fun h => by
      rcases (hW1 1 i h).2 with q | q
      · omega
      · exact q.1 (Or.inl rfl))).1
    have b2 : sI s3 176 i = sI s2 176 i := (fr_at f2 (Or.inl (by omega)) (fun h => by
      rcases (hW2 176 i h).2 with q | q
      · omega
      · exact q.1 (Or.inr rfl))).1
    rw [a1, b1, b2, a2]; exact hE
theorem wE_1 {k : Nat} : ∀ a j, wE 1 k a j → a < 201 ∧ ((a = 1 ∧ j = k) ∨ (¬ REr a j ∧ ¬ RHr 2 177 a j ∧ ¬ RIm a j ∧ ¬ RZz a j ∧ ¬ RPy a j ∧ ¬ RTp a j ∧ ¬ RLi a j ∧ ¬ RSx a j ∧ ¬ RNt a j)) := fun a j h => ⟨by have := h.1; omega, Or.inl h⟩
theorem wE_2 {k : Nat} : ∀ a j, wE 176 k a j → a < 201 ∧ ((a = 176 ∧ j = k) ∨ (¬ REr a j ∧ ¬ RHr 2 177 a j ∧ ¬ RIm a j ∧ ¬ RZz a j ∧ ¬ RPy a j ∧ ¬ RTp a j ∧ ¬ RLi a j ∧ ¬ RSx a j ∧ ¬ RNt a j)) := fun a j h => ⟨by have := h.1; omega, Or.inl h⟩
