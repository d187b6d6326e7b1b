/-! PLAIN LAW, 33: the kernel of the reference -/
set_option maxRecDepth 100000
def wKy (a j : Nat) : Prop := wKm a j ∨ ((a = 189 ∨ a = 190) ∧ j < 3) ∨ (a = 175 ∧ j = 24)
/-- what the reference finds -/
def FM (s0 s : St) (T : Nat → Nat → Int64) (n : Nat) (I J : Nat → Nat) : Prop := Fr wKy 0 0 s0 s ∧ sL s 175 29 = kTot T n I J ∧ sL s 175 30 = kWo T n I J ∧ (∀ k, k < n → sL s 192 (J k) = kCw T n I J k ∧ sL s 191 (I k) = kRw T n I J k) ∧ (∀ c, c < 3 → (∀ k, k < n → J k ≠ c) → sL s 192 c = 0) ∧ ∀ r, r < 27 → (∀ k, k < n → I k ≠ r) → sL s 191 r = 0
theorem s_next0 {n : Nat} {Φ : Int32 → Prop} (hn : n < 4) (h : Φ (Int32.ofNat (2 ^ n - 1))) : w_X4_nextSet 0 (Int32.ofNat n) Φ := by
  unfold w_X4_nextSet
  exact ⟨fun h2 => absurd rfl h2, fun _ => by rw [one_sh1 n hn]; exact h⟩
def hBd (T : Nat → Nat → Int64) (h w : Nat) : Prop := ∀ n I J, 1 ≤ n → n ≤ 3 → (∀ i, i < n → I i < h) → (∀ i, i < n → J i < w) → (xM T n I J (n + 1) (n + 1)).toInt ≠ -9223372036854775808
theorem setN_nz {n : Nat} {a : List Nat} (ho : okE n a) (hn : 1 ≤ n) (hs : setN a < 2 ^ 31) : Int32.ofNat (setN a) ≠ 0 := by
  have h1 := setN_ge a 0 (by rw [ho.1]; omega)
  have h2 : 0 < 2 ^ (gD a 0) := Nat.two_pow_pos _
  exact nz_of (by omega) hs
theorem mk_J {Φ : St → Prop} {E1 : St → Int32 → Prop} {E2 : St → Prop} {s0 : St} {T : Nat → Nat → Int64} {h w n : Nat} {a : List Nat} {x1 : Int32} (hN : 201 ≤ sN s0) (hn : 1 ≤ n ∧ n ≤ 3) (hh : h ≤ 27) (hw : w ≤ 3) (hT : Tm s0 T h w) (hB : hBd T h w) (ha : okE n a) (hah : setN a < 2 ^ h) : ∀ (l : List (List Nat)) (m : Nat) (st : St), l.length < m → chS l (enE n) = true → (∀ c, c ∈ l → okE n c) → Fr wKy 0 0 s0 st → sI st 175 24 = Int32.ofNat n → (∀ i, i < n → sI st 189 i = Int32.ofNat (gD a i)) → (∀ c, fsJ (fun c => kOK T h w n (gD a) (gD c)) (2 ^ w) l = some c → ∀ s, FM s0 s T n (gD a) (gD c) → E2 s) → (fsJ (fun c => kOK T h w n (gD a) (gD c)) (2 ^ w) l = none → ∀ s, Fr wKy 0 0 s0 s → sI s 175 24 = Int32.ofNat n → E1 s x1) → w_X4_kernel_l63 Φ E1 E2 m st x1 (Int32.ofNat (nxN l (enE n)))
  | l, 0, st, hm, _, _, _, _, _, _, _ => absurd hm (by omega)
  | [], m + 1, st, _, hc, _, hF, h24, hr, h1, h0 => by
    have hE := hd_n n hn
    have hT2 := Tm_fr hF hN (fun a j h hw => by unfold wKy wKm at hw; omega) hT
    have h27 : (2 : Nat) ^ w ≤ 2 ^ 27 := Nat.pow_le_pow_right (by omega) (by omega)
    rw [w_X4_kernel_l63, hT2.2.1, one_sh w (by omega), show nxN [] (enE n) = enE n from rfl, le_of (by omega) (by omega)]
    exact ⟨fun _ => h0 rfl st hF h24, fun h => absurd (by omega) h⟩
  | c :: l, m + 1, st, hm, hc, ho, hF, h24, hr, h1, h0 => by
    have hE := hd_n n hn
    have hT2 := Tm_fr hF hN (fun a j h hw => by unfold wKy wKm at hw; omega) hT
    have h27 : (2 : Nat) ^ w ≤ 2 ^ 27 := Nat.pow_le_pow_right (by omega) (by omega)
    have hlt := chS_lt l c _ hc
    obtain ⟨k1, k2, k3, k4, k5, k6, k7⟩ := chS_c hc
    have hnx := nx_lt k7 hE.2.2.1
    rw [w_X4_kernel_l63, hT2.2.1, one_sh w (by omega), show nxN (c :: l) (enE n) = setN c from rfl, le_of (by omega) (by omega)]
    have hoc := ho c (List.mem_cons_self ..)
    refine ⟨fun hle => h0 (by rw [fsJ, if_neg (by omega)]) st hF h24, fun hle => ?_⟩
    have hcw : setN c < 2 ^ w := by omega
    refine s_takesM hoc hn.2 k5 (by omega) (fun s24 f24 v24 => ?_)
    have F24 : Fr wKy 0 0 s0 s24 := Fr_tr (x := 0) (y := 0) hF (Fr_mo f24 (fun a j h => Or.inr (Or.inl ⟨Or.inr h.1, h.2⟩)) (Nat.le_refl _) (Nat.le_refl _))
    have hNs : 201 ≤ sN st := Nat.le_trans hN hF.1
    have hN24 : 201 ≤ sN s24 := Nat.le_trans hN F24.1
    have T24 := Tm_fr F24 hN (fun a j h hw => by unfold wKy wKm at hw; omega) hT
    have r24 : ∀ i, i < n → sI s24 189 i = Int32.ofNat (gD a i) := fun i hi => by
      rw [(fr_at f24 (Or.inl (by omega)) (by omega)).1]; exact hr i hi
    have n24 : sI s24 175 24 = Int32.ofNat n := by rw [(fr_at f24 (Or.inl (by omega)) (by omega)).1]; exact h24
    have hIh := set_lt ha hah
    have hJw := set_lt hoc hcw
    have M24 : Mk s24 T n (gD a) (gD c) := ⟨n24, fun i hi => ⟨r24 i hi, ha.2.2 i hi, v24 i hi, by have := hJw i hi; omega⟩, fun i j hi hj => T24.2.2 _ _ (hIh i hi) (hJw j hj)⟩
    refine s_isKernel hN24 hn hh hw T24 M24 hIh hJw ha.2.1 hoc.2.1 (hB n _ _ hn.1 hn.2 hIh hJw) (fun hok s f g1 g2 g3 g4 g5 => ?_) (fun hno s f => ?_)
    · exact ⟨fun h => absurd h (by decide), fun _ => h1 c (by rw [fsJ, if_pos hcw, if_pos hok]) s ⟨Fr_tr (x := 0) (y := 0) F24 (Fr_mo f (fun _ _ h => Or.inl h) (Nat.le_refl _) (Nat.le_refl _)), g1, g2, g3, g4, g5⟩⟩
    · refine ⟨fun _ => s_nextM (setN_nz hoc hn.1 (by omega)) k3 ?_, fun h => absurd rfl h⟩
      rw [k2]
      have hfs : fsJ (fun c => kOK T h w n (gD a) (gD c)) (2 ^ w) (c :: l) = fsJ (fun c => kOK T h w n (gD a) (gD c)) (2 ^ w) l := by
        rw [fsJ, if_pos hcw, hno]; rfl
      rw [hfs] at h1 h0
      refine mk_J hN hn hh hw hT hB ha hah l m s (by simp at hm; omega) k7 (fun b hb => ho b (List.mem_cons_of_mem _ hb)) (Fr_tr (x := 0) (y := 0) F24 (Fr_mo f (fun _ _ h => Or.inl h) (Nat.le_refl _) (Nat.le_refl _))) ?_ (fun i hi => ?_) h1 h0
      · rw [(fr_at f (Or.inl (by omega)) (by unfold wKm; omega)).1]; exact n24
      · rw [(fr_at f (Or.inl (by omega)) (by unfold wKm; omega)).1]; exact r24 i hi
theorem mk_I {Φ : St → Prop} {E1 : St → Prop} {E2 : St → Prop} {s0 : St} {T : Nat → Nat → Int64} {h w n : Nat} (hN : 201 ≤ sN s0) (hn : 1 ≤ n ∧ n ≤ 3) (hh : h ≤ 27) (hw : w ≤ 3) (hT : Tm s0 T h w) (hB : hBd T h w) : ∀ (l : List (List Nat)) (m : Nat) (st : St), l.length < m → chS l (enE n) = true → (∀ c, c ∈ l → okE n c) → Fr wKy 0 0 s0 st → sI st 175 24 = Int32.ofNat n → (∀ a c, fsI (kQ T h w n) (2 ^ h) l = some (a, c) → ∀ s, FM s0 s T n (gD a) (gD c) → E2 s) → (fsI (kQ T h w n) (2 ^ h) l = none → ∀ s, Fr wKy 0 0 s0 s → sI s 175 24 = Int32.ofNat n → E1 s) → w_X4_kernel_l36 Φ E1 E2 m st (Int32.ofNat (nxN l (enE n)))
  | l, 0, st, hm, _, _, _, _, _, _ => absurd hm (by omega)
  | [], m + 1, st, _, hc, _, hF, h24, h1, h0 => by
    have hE := hd_n n hn
    have hT2 := Tm_fr hF hN (fun a j h hw => by unfold wKy wKm at hw; omega) hT
    have h27 : (2 : Nat) ^ h ≤ 2 ^ 27 := Nat.pow_le_pow_right (by omega) hh
    rw [w_X4_kernel_l36, hT2.1, one_sh h (by omega), show nxN [] (enE n) = enE n from rfl, le_of (by omega) (by omega)]
    exact ⟨fun _ => h0 rfl st hF h24, fun h => absurd (by omega) h⟩
  | a :: l, m + 1, st, hm, hc, ho, hF, h24, h1, h0 => by
    have hE := hd_n n hn
    have hT2 := Tm_fr hF hN (fun a j h hw => by unfold wKy wKm at hw; omega) hT
    have h27 : (2 : Nat) ^ h ≤ 2 ^ 27 := Nat.pow_le_pow_right (by omega) hh
    have hlt := chS_lt l a _ hc
    obtain ⟨k1, k2, k3, k4, k5, k6, k7⟩ := chS_c hc
    have hnx := nx_lt k7 hE.2.2.1
    rw [w_X4_kernel_l36, hT2.1, one_sh h (by omega), show nxN (a :: l) (enE n) = setN a from rfl, le_of (by omega) (by omega)]
    have hoa := ho a (List.mem_cons_self ..)
    refine ⟨fun hle => h0 (by rw [fsI, if_neg (by omega)]) st hF h24, fun hle => ?_⟩
    have hah : setN a < 2 ^ h := by omega
    have hNs : 201 ≤ sN st := Nat.le_trans hN hF.1
    refine s_takesM hoa hn.2 k5 (by omega) (fun s10 f10 v10 => ?_)
    have F10 : Fr wKy 0 0 s0 s10 := Fr_tr (x := 0) (y := 0) hF (Fr_mo f10 (fun a j h => Or.inr (Or.inl ⟨Or.inl h.1, h.2⟩)) (Nat.le_refl _) (Nat.le_refl _))
    have n10 : sI s10 175 24 = Int32.ofNat n := by rw [(fr_at f10 (Or.inl (by omega)) (by omega)).1]; exact h24
    rw [n10]
    refine s_next0 (by omega) ?_
    rw [← hE.1]
    refine mk_J hN hn hh hw hT hB hoa hah (ens n) gFU s10 (gFU_big hE.2.2.2.2) hE.2.1 (fun c hcm => ens_ok n c hcm) F10 n10 v10 (fun c hfc s hs => h1 a c ?_ s hs) (fun hnone s f hr => ?_)
    · have : kQ T h w n a = some c := hfc
      rw [fsI, if_pos hah, this]
    · have hk : kQ T h w n a = none := hnone
      have hfs : fsI (kQ T h w n) (2 ^ h) (a :: l) = fsI (kQ T h w n) (2 ^ h) l := by rw [fsI, if_pos hah, hk]
      rw [hfs] at h1 h0
      unfold w_X4_kernel_b101
      refine s_nextM (setN_nz hoa hn.1 (by omega)) k3 ?_
      rw [k2]
      exact mk_I hN hn hh hw hT hB l m s (by simp at hm; omega) k7 (fun b hb => ho b (List.mem_cons_of_mem _ hb)) f hr h1 h0
theorem mk_N {Φ : St → Prop} {E2 : St → Prop} {s0 : St} {T : Nat → Nat → Int64} {h w : Nat} (hN : 201 ≤ sN s0) (hh : h ≤ 27) (hw : w ≤ 3) (hT : Tm s0 T h w) (hB : hBd T h w) : ∀ (k n m : Nat) (st : St), k < m → n + k = 5 → 1 ≤ n → Fr wKy 0 0 s0 st → sI st 175 24 = Int32.ofNat n → (∀ n' a c, fsN T h w k n = some (n', a, c) → ∀ s, FM s0 s T n' (gD a) (gD c) → E2 s) → fsN T h w k n ≠ none → w_X4_kernel_l5 Φ (fun (s76 : St) => w_X4_kernel_b126 Φ s76) E2 m st
  | 0, n, m, st, _, _, _, _, _, _, hne => absurd rfl hne
  | k + 1, n, 0, st, hm, _, _, _, _, _, _ => absurd hm (by omega)
  | k + 1, n, m + 1, st, hm, hnk, hn, hF, h24, h1, hne => by
    have hT2 := Tm_fr hF hN (fun a j h hw => by unfold wKy wKm at hw; omega) hT
    rw [fsN] at h1 hne
    by_cases e1 : w < n
    · rw [if_pos e1] at hne; exact absurd rfl hne
    · rw [if_neg e1] at h1 hne
      by_cases e2 : h < n
      · rw [if_pos e2] at hne; exact absurd rfl hne
      · rw [if_neg e2] at h1 hne
        have hn3 : 1 ≤ n ∧ n ≤ 3 := by omega
        have hE := hd_n n hn3
        rw [w_X4_kernel_l5, h24, hT2.1, hT2.2.1, lt_of (by omega) (by omega), lt_of (by omega) (by omega)]
        refine ⟨fun h => absurd h e1, fun _ => ⟨fun h => absurd h e2, fun _ => s_next0 (by omega) ?_⟩⟩
        rw [← hE.1]
        refine mk_I hN hn3 hh hw hT hB (ens n) gFU st (gFU_big hE.2.2.2.2) hE.2.1 (fun c hcm => ens_ok n c hcm) hF h24 (fun a c hf s hs => ?_) (fun hf s f g24 => ?_)
        · rw [hf] at h1
          exact h1 n a c rfl s hs
        · rw [hf] at h1 hne
          unfold w_X4_kernel_b113
          rw [g24, succ_of]
          rintro _ rfl
          exact mk_N hN hh hw hT hB k (n + 1) m _ (by omega) (by omega) (by omega) (Fr_I f (Or.inl (Or.inr (Or.inr ⟨rfl, rfl⟩)))) (by rw [gI_pI, if_pos ⟨rfl, rfl⟩]) h1 hne
/-- the reference's kernel -/
theorem m_kernel {Φ : St → Prop} {s0 : St} {T : Nat → Nat → Int64} {h w : Nat} (hN : 201 ≤ sN s0) (hh : h ≤ 27) (hw : w ≤ 3) (hT : Tm s0 T h w) (hB : hBd T h w) (h1 : ∀ n a c, fsN T h w 4 1 = some (n, a, c) → ∀ s, FM s0 s T n (gD a) (gD c) → Φ s) (hne : fsN T h w 4 1 ≠ none) : w_X4_kernel s0 Φ := by
  unfold w_X4_kernel
  rintro _ rfl
  refine mk_N hN hh hw hT hB 4 1 gFU _ (gFU_big (by omega)) rfl (by omega) (Fr_I Fr_rf (Or.inl (Or.inr (Or.inr ⟨rfl, rfl⟩)))) (by rw [gI_pI, if_pos ⟨rfl, rfl⟩]; rfl) (fun n a c hf s hs => ?_) hne
  unfold w_X4_kernel_b88
  exact h1 n a c hf s hs
