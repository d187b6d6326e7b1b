/-! PLAIN LAW, 32: the kernel, on -/
set_option maxRecDepth 100000
/-- the first set of a list, below a bound, that does -/
def fsJ (P : List Nat → Bool) (b : Nat) : List (List Nat) → Option (List Nat)
  | [] => none
  | a :: l => if setN a < b then (if P a then some a else fsJ P b l) else none
def fsI (Q : List Nat → Option (List Nat)) (b : Nat) : List (List Nat) → Option (List Nat × List Nat)
  | [] => none
  | a :: l => if setN a < b then (match Q a with
    | some c => some (a, c)
    | none => fsI Q b l) else none
def kQ (T : Nat → Nat → Int64) (h w n : Nat) (a : List Nat) : Option (List Nat) := fsJ (fun c => kOK T h w n (gD a) (gD c)) (2 ^ w) (ens n)
def fsN (T : Nat → Nat → Int64) (h w : Nat) : Nat → Nat → Option (Nat × List Nat × List Nat)
  | 0, _ => none
  | k + 1, n => if w < n then none else if h < n then none else (match fsI (kQ T h w n) (2 ^ h) (ens n) with
    | some (a, c) => some (n, a, c)
    | none => fsN T h w k (n + 1))
theorem one_sh : ∀ h, h < 28 → ((1 : Int32) <<< ((Int32.ofNat h) &&& 31)) = Int32.ofNat (2 ^ h) := by decide +kernel
theorem one_sh1 : ∀ n, n < 4 → ((1 : Int32) <<< ((Int32.ofNat n) &&& 31)) - 1 = Int32.ofNat (2 ^ n - 1) := by decide +kernel
theorem hd_n (n : Nat) (hn : 1 ≤ n ∧ n ≤ 3) : nxN (ens n) (enE n) = 2 ^ n - 1 ∧ chS (ens n) (enE n) = true ∧ enE n < 2 ^ 28 ∧ 2 ^ 27 ≤ enE n ∧ (ens n).length < 100000000 := by
  rcases (by omega : n = 1 ∨ n = 2 ∨ n = 3) with rfl | rfl | rfl
  · exact ⟨hd_1.1, chS_1, by decide, by decide, by decide +kernel⟩
  · exact ⟨hd_1.2, chS_2, by decide, by decide, by decide +kernel⟩
  · exact ⟨by decide +kernel, chS_3, by decide, by decide, by decide +kernel⟩
theorem nx_lt {l : List (List Nat)} {e : Nat} (h : chS l e = true) (he : e < 2 ^ 28) : nxN l e < 2 ^ 28 := by
  cases l with
  | nil => exact he
  | cons a l => exact Nat.lt_trans (chS_lt l a e h) he
def wKx (a j : Nat) : Prop := wSv a j ∨ ((a = 129 ∨ a = 130) ∧ j < 3)
/-- what the component finds -/
def FX (s0 s : St) (T : Nat → Nat → Int64) (n : Nat) (I J : Nat → Nat) : Prop := Fr wKx 0 0 s0 s ∧ sL s 0 16 = kTot T n I J ∧ sL s 0 17 = kWo T n I J ∧ (∀ k, k < n → sL s 131 k = kRw T n I J k ∧ sL s 132 k = kCw T n I J k) ∧ Pl s n I J
theorem xk_J {Φ : St → Int32 → Prop} {Φw : St → Nat → Prop} {E1 : St → Int32 → Prop} {E2 : St → Int32 → Int32 → Prop} {s0 : St} {T : Nat → Nat → Int64} {h w n : Nat} {a : List Nat} {x2 : Int32} (hN : 201 ≤ sN s0) (hn : 1 ≤ n ∧ n ≤ 3) (hh : h ≤ 27) (hw : w ≤ 3) (hT : Tb s0 T h w) (ha : okE n a) (hah : setN a < 2 ^ h) : ∀ (l : List (List Nat)) (m : Nat) (st : St), l.length < m → chS l (enE n) = true → (∀ c, c ∈ l → okE n c) → Fr wKx 0 0 s0 st → (∀ i, i < n → sI st 129 i = Int32.ofNat (gD a i)) → (∀ c, fsJ (fun c => kOK T h w n (gD a) (gD c)) (2 ^ w) l = some c → ∀ s, FX s0 s T n (gD a) (gD c) → E1 s (Int32.ofNat n)) → (fsJ (fun c => kOK T h w n (gD a) (gD c)) (2 ^ w) l = none → ∀ s, Fr wKx 0 0 s0 s → (∀ i, i < n → sI s 129 i = Int32.ofNat (gD a i)) → E2 s (Int32.ofNat n) x2) → w_X0_kernel_l48 Φ Φw E1 E2 m st (Int32.ofNat n) x2 (Int32.ofNat (nxN l (enE n)))
  | l, 0, st, hm, _, _, _, _, _, _ => absurd hm (by omega)
  | [], m + 1, st, _, hc, _, hF, hr, h1, h0 => by
    have hE := hd_n n hn
    have hT2 := Tb_fr hF hN hh (fun a j h hw => by unfold wKx wSv at hw; omega) hT
    have h27 : (2 : Nat) ^ w ≤ 2 ^ 27 := Nat.pow_le_pow_right (by omega) (by omega)
    rw [w_X0_kernel_l48, hT2.2.1, one_sh w (by omega), show nxN [] (enE n) = enE n from rfl, le_of (by omega) (by omega)]
    exact ⟨fun _ => h0 rfl st hF hr, fun h => absurd (by omega) h⟩
  | c :: l, m + 1, st, hm, hc, ho, hF, hr, h1, h0 => by
    have hE := hd_n n hn
    have hT2 := Tb_fr hF hN hh (fun a j h hw => by unfold wKx wSv at hw; omega) hT
    have h27 : (2 : Nat) ^ w ≤ 2 ^ 27 := Nat.pow_le_pow_right (by omega) (by omega)
    have hlt := chS_lt l c _ hc
    obtain ⟨k1, k2, k3, k4, k5, k6, k7⟩ := chS_c hc
    have hnx := nx_lt k7 hE.2.2.1
    rw [w_X0_kernel_l48, hT2.2.1, one_sh w (by omega), show nxN (c :: l) (enE n) = setN c from rfl, le_of (by omega) (by omega)]
    have hoc := ho c (List.mem_cons_self ..)
    refine ⟨fun hle => h0 (by rw [fsJ, if_neg (by omega)]) st hF hr, fun hle => ?_⟩
    have hcw : setN c < 2 ^ w := by omega
    refine s_places k4 (by rw [hoc.1]; exact hn.2) (fun s24 f24 v24 => ?_)
    have F24 : Fr wKx 0 0 s0 s24 := Fr_tr (x := 0) (y := 0) hF (Fr_mo f24 (fun a j h => Or.inr ⟨Or.inr h.1, h.2⟩) (Nat.le_refl _) (Nat.le_refl _))
    have hN24 : 201 ≤ sN s24 := Nat.le_trans hN F24.1
    have T24 := Tb_fr F24 hN hh (fun a j h hw => by unfold wKx wSv at hw; omega) hT
    have r24 : ∀ i, i < n → sI s24 129 i = Int32.ofNat (gD a i) := fun i hi => by
      rw [(fr_at f24 (Or.inl (by have := hF.1; omega)) (by omega)).1]; exact hr i hi
    have P24 : Pl s24 n (gD a) (gD c) := fun i hi => ⟨r24 i hi, v24 i (by rw [hoc.1]; exact hi)⟩
    refine s_solves hN24 hn hh hw T24 P24 (set_lt ha hah) (set_lt hoc hcw) (fun hok s f g1 g2 g3 => ?_) (fun hno s f => ?_)
    · refine ⟨fun h => absurd h (by decide), fun _ => h1 c (by rw [fsJ, if_pos hcw, if_pos hok]) s ⟨Fr_tr (x := 0) (y := 0) F24 (Fr_mo f (fun _ _ h => Or.inl h) (Nat.le_refl _) (Nat.le_refl _)), g1, g2, g3, Pl_fr f hN24 (fun a j h hw => by unfold wSv at hw; omega) P24⟩⟩
    · refine ⟨fun _ => s_nextX ?_, fun h => absurd rfl h⟩
      rw [k1]
      have hfs : fsJ (fun c => kOK T h w n (gD a) (gD c)) (2 ^ w) (c :: l) = fsJ (fun c => kOK T h w n (gD a) (gD c)) (2 ^ w) l := by
        rw [fsJ, if_pos hcw, hno]; rfl
      rw [hfs] at h1 h0
      refine xk_J hN hn hh hw hT ha hah l m s (by simp at hm; omega) k7 (fun b hb => ho b (List.mem_cons_of_mem _ hb)) (Fr_tr (x := 0) (y := 0) F24 (Fr_mo f (fun _ _ h => Or.inl h) (Nat.le_refl _) (Nat.le_refl _))) (fun i hi => ?_) h1 h0
      rw [(fr_at f (Or.inl (by omega)) (by unfold wSv; omega)).1]; exact r24 i hi
theorem xk_I {Φ : St → Int32 → Prop} {Φw : St → Nat → Prop} {E1 : St → Int32 → Prop} {E2 : St → Int32 → Prop} {s0 : St} {T : Nat → Nat → Int64} {h w n : Nat} (hN : 201 ≤ sN s0) (hn : 1 ≤ n ∧ n ≤ 3) (hh : h ≤ 27) (hw : w ≤ 3) (hT : Tb s0 T h w) : ∀ (l : List (List Nat)) (m : Nat) (st : St), l.length < m → chS l (enE n) = true → (∀ c, c ∈ l → okE n c) → Fr wKx 0 0 s0 st → (∀ a c, fsI (kQ T h w n) (2 ^ h) l = some (a, c) → ∀ s, FX s0 s T n (gD a) (gD c) → E1 s (Int32.ofNat n)) → (fsI (kQ T h w n) (2 ^ h) l = none → ∀ s, Fr wKx 0 0 s0 s → E2 s (Int32.ofNat n)) → w_X0_kernel_l24 Φ Φw E1 E2 m st (Int32.ofNat n) (Int32.ofNat (nxN l (enE n)))
  | l, 0, st, hm, _, _, _, _, _ => absurd hm (by omega)
  | [], m + 1, st, _, hc, _, hF, h1, h0 => by
    have hE := hd_n n hn
    have hT2 := Tb_fr hF hN hh (fun a j h hw => by unfold wKx wSv at hw; omega) hT
    have h27 : (2 : Nat) ^ h ≤ 2 ^ 27 := Nat.pow_le_pow_right (by omega) hh
    rw [w_X0_kernel_l24, hT2.1, one_sh h (by omega), show nxN [] (enE n) = enE n from rfl, le_of (by omega) (by omega)]
    exact ⟨fun _ => h0 rfl st hF, fun h => absurd (by omega) h⟩
  | a :: l, m + 1, st, hm, hc, ho, hF, h1, h0 => by
    have hE := hd_n n hn
    have hT2 := Tb_fr hF hN hh (fun a j h hw => by unfold wKx wSv at hw; omega) hT
    have h27 : (2 : Nat) ^ h ≤ 2 ^ 27 := Nat.pow_le_pow_right (by omega) hh
    have hlt := chS_lt l a _ hc
    obtain ⟨k1, k2, k3, k4, k5, k6, k7⟩ := chS_c hc
    have hnx := nx_lt k7 hE.2.2.1
    rw [w_X0_kernel_l24, hT2.1, one_sh h (by omega), show nxN (a :: l) (enE n) = setN a from rfl, le_of (by omega) (by omega)]
    have hoa := ho a (List.mem_cons_self ..)
    refine ⟨fun hle => h0 (by rw [fsI, if_neg (by omega)]) st hF, fun hle => ?_⟩
    have hah : setN a < 2 ^ h := by omega
    refine s_places k4 (by rw [hoa.1]; exact hn.2) (fun s10 f10 v10 => ?_)
    have F10 : Fr wKx 0 0 s0 s10 := Fr_tr (x := 0) (y := 0) hF (Fr_mo f10 (fun a j h => Or.inr ⟨Or.inl h.1, h.2⟩) (Nat.le_refl _) (Nat.le_refl _))
    intro v17 e17
    rw [one_sh1 n (by omega), ← hE.1] at e17
    subst e17
    refine xk_J hN hn hh hw hT hoa hah (ens n) gFU s10 (gFU_big hE.2.2.2.2) hE.2.1 (fun c hcm => ens_ok n c hcm) F10 (fun i hi => v10 i (by rw [hoa.1]; exact hi)) (fun c hfc s hs => h1 a c ?_ s hs) (fun hnone s f hr => ?_)
    · have : kQ T h w n a = some c := hfc
      rw [fsI, if_pos hah, this]
    · have hk : kQ T h w n a = none := hnone
      have hfs : fsI (kQ T h w n) (2 ^ h) (a :: l) = fsI (kQ T h w n) (2 ^ h) l := by rw [fsI, if_pos hah, hk]
      rw [hfs] at h1 h0
      unfold w_X0_kernel_b84
      refine s_nextX ?_
      rw [k1]
      exact xk_I hN hn hh hw hT l m s (by simp at hm; omega) k7 (fun b hb => ho b (List.mem_cons_of_mem _ hb)) f h1 h0
theorem xk_N {Φ : St → Int32 → Prop} {Φw : St → Nat → Prop} {E2 : St → Prop} {s0 : St} {T : Nat → Nat → Int64} {h w : Nat} (hN : 201 ≤ sN s0) (hh : h ≤ 27) (hw : w ≤ 3) (hT : Tb s0 T h w) : ∀ (k n m : Nat) (st : St), k < m → n + k = 5 → 1 ≤ n → Fr wKx 0 0 s0 st → (∀ n' a c, fsN T h w k n = some (n', a, c) → ∀ s, FX s0 s T n' (gD a) (gD c) → Φ s (Int32.ofNat n')) → fsN T h w k n ≠ none → w_X0_kernel_l2 Φ Φw (fun (s60 : St) (x1 : Int32) => w_X0_kernel_b74 Φ Φw s60 x1) E2 m st (Int32.ofNat n)
  | 0, n, m, st, _, _, _, _, _, hne => absurd rfl hne
  | k + 1, n, 0, st, hm, _, _, _, _, _ => absurd hm (by omega)
  | k + 1, n, m + 1, st, hm, hnk, hn, hF, h1, hne => by
    have hT2 := Tb_fr hF hN hh (fun a j h hw => by unfold wKx wSv at hw; omega) hT
    rw [fsN] at h1 hne
    by_cases e1 : w < n
    · rw [if_pos e1] at hne; exact absurd rfl hne
    · rw [if_neg e1] at h1 hne
      by_cases e2 : h < n
      · rw [if_pos e2] at hne; exact absurd rfl hne
      · rw [if_neg e2] at h1 hne
        have hn3 : 1 ≤ n ∧ n ≤ 3 := by omega
        have hE := hd_n n hn3
        rw [w_X0_kernel_l2, hT2.1, hT2.2.1, lt_of (by omega) (by omega), lt_of (by omega) (by omega)]
        refine ⟨fun h => absurd h e1, fun _ => ⟨fun h => absurd h e2, fun _ => ?_⟩⟩
        intro v3 e3
        rw [one_sh1 n (by omega), ← hE.1] at e3
        subst e3
        refine xk_I hN hn3 hh hw hT (ens n) gFU st (gFU_big hE.2.2.2.2) hE.2.1 (fun c hcm => ens_ok n c hcm) hF (fun a c hf s hs => ?_) (fun hf s f => ?_)
        · unfold w_X0_kernel_b74
          rw [hf] at h1
          exact h1 n a c rfl s hs
        · rw [hf] at h1 hne
          unfold w_X0_kernel_b92
          rw [succ_of]
          exact xk_N hN hh hw hT k (n + 1) m s (by omega) (by omega) (by omega) f h1 hne
/-- the component's kernel -/
theorem x_kernel {Φ : St → Int32 → Prop} {Φw : St → Nat → Prop} {s0 : St} {T : Nat → Nat → Int64} {h w : Nat} (hN : 201 ≤ sN s0) (hh : h ≤ 27) (hw : w ≤ 3) (hT : Tb s0 T h w) (h1 : ∀ n a c, fsN T h w 4 1 = some (n, a, c) → ∀ s, FX s0 s T n (gD a) (gD c) → Φ s (Int32.ofNat n)) (hne : fsN T h w 4 1 ≠ none) : w_X0_kernel s0 Φ Φw := by
  unfold w_X0_kernel
  exact xk_N hN hh hw hT 4 1 gFU s0 (gFU_big (by omega)) rfl (by omega) Fr_rf h1 hne
