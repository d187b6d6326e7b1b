/-! PLAIN LAW, 31: the kernel: both sides stop at the same square -/
set_option maxRecDepth 100000
def gD (a : List Nat) (i : Nat) : Nat := a.getD i 0
def okE (n : Nat) (a : List Nat) : Prop := a.length = n ∧ Asc n (gD a) ∧ ∀ i, i < n → gD a i < 27
theorem ens_ok (n : Nat) (a : List Nat) (h : a ∈ ens n) : okE n a := by
  match n with
  | 0 => exact absurd h (by simp [ens])
  | 1 =>
    simp only [ens, List.mem_map, List.mem_range] at h
    obtain ⟨k, hk, rfl⟩ := h
    refine ⟨rfl, fun i hi => absurd hi (by omega), fun i hi => ?_⟩
    rw [show i = 0 by omega]; exact hk
  | 2 =>
    simp only [ens, c2, List.mem_flatMap, List.mem_map, List.mem_range] at h
    obtain ⟨k, hk, j, hj, rfl⟩ := h
    refine ⟨rfl, fun i hi => ?_, fun i hi => ?_⟩
    · rw [show i = 0 by omega]; exact hj
    · rcases (by omega : i = 0 ∨ i = 1) with rfl | rfl
      · show j < 27; omega
      · exact hk
  | 3 =>
    simp only [ens, c3, List.mem_flatMap, List.mem_map, List.mem_range] at h
    obtain ⟨k, hk, j, hj, i0, hi0, rfl⟩ := h
    refine ⟨rfl, fun i hi => ?_, fun i hi => ?_⟩
    · rcases (by omega : i = 0 ∨ i = 1) with rfl | rfl
      · exact hi0
      · exact hj
    · rcases (by omega : i = 0 ∨ i = 1 ∨ i = 2) with rfl | rfl | rfl
      · show i0 < 27; omega
      · show j < 27; omega
      · exact hk
  | n + 4 => exact absurd h (by simp [ens])
theorem ntz2 : ∀ i, i < 27 → ntzF (Int32.ofNat (2 ^ i)) = Int32.ofNat i ∧ Int32.ofNat (2 ^ i) ≠ 0 := by decide +kernel
theorem chS_c {a : List Nat} {l : List (List Nat)} {e : Nat} (h : chS (a :: l) e = true) : nsX (Int32.ofNat (setN a)) = Int32.ofNat (nxN l e) ∧ nsM (Int32.ofNat (setN a)) = Int32.ofNat (nxN l e) ∧ ((Int32.ofNat (setN a)) &&& (-(Int32.ofNat (setN a)))) ≠ 0 ∧ plX a = true ∧ tkM a = true ∧ setN a < nxN l e ∧ chS l e = true := by
  rw [chS] at h
  simp only [Bool.and_eq_true, decide_eq_true_eq] at h
  obtain ⟨⟨⟨⟨⟨h1, h2⟩, h3⟩, h4⟩, h5⟩, h6⟩ := h
  unfold nsP at h1
  simp only [Bool.and_eq_true, decide_eq_true_eq] at h1
  obtain ⟨⟨k1, k2⟩, k3⟩ := h1
  obtain ⟨n1, n2⟩ := ntz2 _ h5
  refine ⟨?_, ?_, ?_, h2, h3, h4, h6⟩
  · unfold nsX; rw [k1, n1]; exact k2
  · unfold nsM; rw [k1]; exact k3
  · rw [k1]; exact n2
theorem chS_lt : ∀ (l : List (List Nat)) (a : List Nat) (e : Nat), chS (a :: l) e = true → setN a < e
  | [], a, e, h => (chS_c h).2.2.2.2.2.1
  | b :: l, a, e, h => by
    obtain ⟨-, -, -, -, -, h1, h2⟩ := chS_c h
    have h3 := chS_lt l b e h2
    have h4 : nxN (b :: l) e = setN b := rfl
    rw [h4] at h1; omega
theorem setN_ge : ∀ (a : List Nat) (i : Nat), i < a.length → 2 ^ (gD a i) ≤ setN a
  | [], i, h => absurd h (by simp)
  | b :: r, 0, _ => by
    show 2 ^ b ≤ 2 ^ b + setN r; omega
  | b :: r, i + 1, h => by
    have h1 := setN_ge r i (by simpa using h)
    show 2 ^ (gD r i) ≤ 2 ^ b + setN r
    exact Nat.le_trans h1 (Nat.le_add_left _ _)
theorem set_lt {a : List Nat} {n h : Nat} (ho : okE n a) (hs : setN a < 2 ^ h) : ∀ i, i < n → gD a i < h := fun i hi => by
  have h1 := setN_ge a i (by rw [ho.1]; exact hi)
  by_cases e : gD a i < h
  · exact e
  · have h2 : 2 ^ h ≤ 2 ^ (gD a i) := Nat.pow_le_pow_right (by omega) (by omega)
    omega
/-! places -/
theorem pl_nz : ∀ i, i < 27 → (((0 : Int32) ^^^ (-1)) &&& ((0 : Int32) - 1)) ≠ Int32.ofNat (2 ^ i - 1) := by decide +kernel
theorem s_places_l {Φ : St → Prop} {E : St → Prop} {st0 : St} {cell : Nat} : ∀ (r : List Nat) (t m : Nat) (st : St), plX r = true → t + r.length ≤ 3 → r.length < m → Fr (fun a j => a = cell ∧ j < 3) 0 0 st0 st → (∀ s, Fr (fun a j => a = cell ∧ j < 3) 0 0 st0 s → (∀ i, i < t → sI s cell i = sI st cell i) → (∀ i, i < r.length → sI s cell (t + i) = Int32.ofNat (gD r i)) → E s) → w_X0_places_l4 Φ E m st cell (Int32.ofNat t) (Int32.ofNat (setN r))
  | [], t, 0, st, _, _, hm, _, _ => absurd hm (by simp)
  | [], t, m + 1, st, _, _, _, hF, h => by
    rw [w_X0_places_l4]
    exact ⟨fun _ => h st hF (fun _ _ => rfl) (fun i hi => absurd hi (by simp)), fun h2 => absurd rfl h2⟩
  | i :: r, t, 0, st, _, _, hm, _, _ => absurd hm (by omega)
  | i :: r, t, m + 1, st, hp, ht, hm, hF, h => by
    rw [plX] at hp
    simp only [Bool.and_eq_true, decide_eq_true_eq] at hp
    obtain ⟨⟨⟨p1, p2⟩, p3⟩, p4⟩ := hp
    have hl : (i :: r).length = r.length + 1 := rfl
    rw [hl] at ht hm
    rw [w_X0_places_l4]
    refine ⟨fun h0 => ?_, fun _ => s_ntz ?_⟩
    · rw [h0] at p2; exact absurd p2 (pl_nz i p1)
    · unfold ntzF
      rw [p2, ntz_ok i p1, p3, vp_of (by omega), nn_of (by omega), succ_of]
      refine ⟨by omega, ?_⟩
      rintro _ rfl _ rfl
      refine s_places_l r (t + 1) m _ p4 (by omega) (by omega) (Fr_I hF (Or.inl ⟨rfl, by omega⟩)) (fun s f1 f2 f3 => h s f1 (fun j hj => ?_) (fun j hj => ?_))
      · rw [f2 j (by omega), gI_pI, if_neg (by omega)]
      · cases j with
        | zero =>
          rw [Nat.add_zero, f2 t (by omega), gI_pI, if_pos ⟨rfl, rfl⟩]; rfl
        | succ j =>
          have := f3 j (by rw [hl] at hj; omega)
          rw [show t + (j + 1) = t + 1 + j by omega, this]; rfl
theorem s_places {Φ : St → Prop} {st : St} {cell : Nat} {a : List Nat} (hp : plX a = true) (hl : a.length ≤ 3) (h : ∀ s, Fr (fun b j => b = cell ∧ j < 3) 0 0 st s → (∀ i, i < a.length → sI s cell i = Int32.ofNat (gD a i)) → Φ s) : w_X0_places st (Int32.ofNat (setN a)) cell Φ := by
  unfold w_X0_places
  refine s_places_l a 0 gFU st hp (by omega) (by unfold gFU; omega) Fr_rf (fun s f1 _ f3 => ?_)
  unfold w_X0_places_b27
  exact h s f1 (fun i hi => by have := f3 i hi; rw [Nat.zero_add] at this; exact this)
theorem bitI {s k : Nat} (hs : s < 2 ^ 31) (hk : k < 27) : (((Int32.ofNat s) >>> ((Int32.ofNat k) &&& 31)) &&& 1) = Int32.ofNat (if s.testBit k then 1 else 0) := by
  have h31 : ∀ k, k < 27 → (((Int32.ofNat k) &&& 31).toBitVec.smod 32).toNat = k := by decide +kernel
  have e1 : ((Int32.ofNat s) >>> ((Int32.ofNat k) &&& 31)) = Int32.ofNat (s / 2 ^ k) := by
    have hle : s / 2 ^ k ≤ s := Nat.div_le_self _ _
    apply Int32.toInt_inj.mp
    show ((Int32.ofNat s).toBitVec.sshiftRight' (((Int32.ofNat k) &&& 31).toBitVec.smod 32)).toInt = _
    rw [BitVec.sshiftRight', h31 k hk, BitVec.toInt_sshiftRight, Int.shiftRight_eq_div_pow, ti_of (by omega)]
    show (Int32.ofNat s).toInt / _ = _
    rw [ti_of hs]
    exact (Int.natCast_ediv s (2 ^ k)).symm
  have e2 : ∀ m : Nat, (Int32.ofNat m) &&& 1 = Int32.ofNat (m % 2) := fun m => by
    apply Int32.toBitVec_inj.mp
    apply BitVec.eq_of_toNat_eq
    rw [Int32.toBitVec_and, BitVec.toNat_and]
    show (BitVec.ofNat 32 m).toNat &&& 1 = (BitVec.ofNat 32 (m % 2)).toNat
    rw [BitVec.toNat_ofNat, BitVec.toNat_ofNat, Nat.and_one_is_mod]
    omega
  rw [e1, e2]
  have e3 : s / 2 ^ k % 2 = (if s.testBit k then 1 else 0) := by
    rw [Nat.testBit_eq_decide_div_mod_eq]
    rcases (by omega : s / 2 ^ k % 2 = 0 ∨ s / 2 ^ k % 2 = 1) with h | h <;> rw [h] <;> rfl
  rw [e3]
theorem tk_bit {a : List Nat} (h : tkM a = true) {k : Nat} (hk : k < 27) : (setN a).testBit k = a.contains k := by
  unfold tkM at h
  rw [List.all_eq_true] at h
  have := h k (List.mem_range.mpr hk)
  exact eq_of_beq this
/-- the reference takes the places -/
theorem s_takesM {Φ : St → Prop} {st : St} {cell n : Nat} {a : List Nat} (ho : okE n a) (hn : n ≤ 3) (ht : tkM a = true) (hs : setN a < 2 ^ 31) (h : ∀ s, Fr (fun b j => b = cell ∧ j < 3) 0 0 st s → (∀ i, i < n → sI s cell i = Int32.ofNat (gD a i)) → Φ s) : w_X4_takes st (Int32.ofNat (setN a)) cell Φ := by
  obtain ⟨hl, ha, h27⟩ := ho
  have hmem : ∀ k, a.contains k = true ↔ ∃ i, i < n ∧ gD a i = k := fun k => by
    rw [List.contains_iff_mem]
    constructor
    · intro hk
      obtain ⟨i, hi, e⟩ := List.getElem_of_mem hk
      refine ⟨i, by omega, ?_⟩
      unfold gD
      rw [List.getD_eq_getElem?_getD, List.getElem?_eq_getElem hi]; exact e
    · rintro ⟨i, hi, rfl⟩
      have hi' : i < a.length := by omega
      unfold gD
      rw [List.getD_eq_getElem?_getD, List.getElem?_eq_getElem hi']
      exact List.getElem_mem hi'
  unfold w_X4_takes
  refine loop_up (α := St × Int32 × Int32) (L := fun m b => w_X4_takes_l4 Φ (fun (s6 : St) => w_X4_takes_b32 Φ s6) m b.1 (Int32.ofNat (setN a)) cell b.2.1 b.2.2) 27 (fun k b => b.2.2 = Int32.ofNat k ∧ ∃ t, t ≤ n ∧ b.2.1 = Int32.ofNat t ∧ Fr (fun b j => b = cell ∧ j < 3) 0 0 st b.1 ∧ (∀ i, i < t → gD a i < k ∧ sI b.1 cell i = Int32.ofNat (gD a i)) ∧ ∀ i, t ≤ i → i < n → k ≤ gD a i) (fun m k b hk hB k9 => ?_) (fun m b hB => ?_) gFU 0 (st, 0, 0) (by omega) (gFU_big (by omega)) ⟨rfl, 0, by omega, rfl, Fr_rf, fun i hi => absurd hi (by omega), fun i _ _ => Nat.zero_le _⟩
  · obtain ⟨s, x, y⟩ := b
    obtain ⟨e1, t, t1, e2, hF, hv, hge⟩ := hB
    dsimp only at e1 e2 hF hv
    subst e1 e2
    show w_X4_takes_l4 Φ _ (m + 1) s _ _ _ _
    have e27 : ((27 : Int32) ≤ Int32.ofNat k) = (27 ≤ k) := le_of (m := 27) (by omega) (by omega)
    rw [w_X4_takes_l4, e27, bitI hs hk, tk_bit ht hk]
    refine ⟨fun h => absurd h (by omega), fun _ => ⟨fun hne => ?_, fun heq => ?_⟩⟩
    · unfold w_X4_takes_b26
      have hk9 := k9 (s, Int32.ofNat t, Int32.ofNat k + 1)
      dsimp only at hk9
      refine hk9 ⟨succ_of k, t, t1, rfl, hF, fun i hi => ⟨by have := (hv i hi).1; omega, (hv i hi).2⟩, fun i hi1 hi2 => ?_⟩
      have h1 := hge i hi1 hi2
      by_cases e : gD a i = k
      · have := (hmem k).mpr ⟨i, hi2, e⟩
        rw [this] at hne; exact absurd rfl hne
      · omega
    · have hc : a.contains k = true := by
        cases hcc : a.contains k
        · rw [hcc] at heq; exact absurd heq (by decide)
        · rfl
      obtain ⟨i, hi, hik⟩ := (hmem k).mp hc
      have hti : t ≤ i := by
        by_cases e : t ≤ i
        · exact e
        · have := (hv i (by omega)).1; omega
      have hit : i = t := by
        by_cases e : i = t
        · exact e
        · have h1 := asc_lt ha i t (by omega) hi
          have h2 := hge t (Nat.le_refl _) (by omega)
          omega
      subst hit
      rw [vp_of (by omega), nn_of (by omega)]
      refine ⟨by omega, ?_⟩
      intro s9 hs9
      unfold w_X4_takes_b26
      have hk9 := k9 (s9, Int32.ofNat i + 1, Int32.ofNat k + 1)
      dsimp only at hk9
      refine hk9 ⟨succ_of k, i + 1, by omega, succ_of i, by rw [hs9]; exact Fr_I hF (Or.inl ⟨rfl, by omega⟩), fun j hj => ?_, fun j hj1 hj2 => ?_⟩
      · by_cases e : j = i
        · subst e; exact ⟨by omega, by rw [hs9, gI_pI, if_pos ⟨rfl, rfl⟩, hik]⟩
        · have := hv j (by omega)
          exact ⟨by omega, by rw [hs9, gI_pI, if_neg (by omega)]; exact this.2⟩
      · have := asc_lt ha j i (by omega) hj2
        omega
  · obtain ⟨s, x, y⟩ := b
    obtain ⟨e1, t, t1, e2, hF, hv, hge⟩ := hB
    dsimp only at e1 e2 hF hv
    subst e1 e2
    show w_X4_takes_l4 Φ _ (m + 1) s _ _ _ _
    rw [w_X4_takes_l4]
    refine ⟨fun _ => ?_, fun h => absurd (Int32.le_refl _) h⟩
    unfold w_X4_takes_b32
    refine h s hF (fun i hi => (hv i ?_).2)
    by_cases e : i < t
    · exact e
    · have h1 := hge i (by omega) hi
      have h2 := h27 i hi
      omega
