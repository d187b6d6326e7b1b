/-! PLAIN LAW, 57: the hull over a point -/
set_option maxRecDepth 100000
/-- d sizes of sets from n on -/
def HuR (K G M N p : Nat) (f : Nat → Nat → Nat → Int32) : Nat → Nat → Option (Option Bst) → Option (Option Bst) → Prop
  | 0, _, a, r => r = a
  | d + 1, n, a, r => ∃ l b, l ≤ 5000 ∧ Rn (ptN K G) n (tryF K G M N p f n) l (some (s0S n)) a b ∧ HuR K G M N p f d (n + 1) b r
theorem rk_0 {P n : Nat} (hP : P ≤ 15) : rkS P (s0S n) < 5000 := by
  unfold rkS; omega
theorem ptK : ∀ G, G < 5 → 1 ≤ G → 2 ≤ ptN 2 G ∧ 3 ≤ ptN 3 G := by decide
theorem pt_K {K G : Nat} (hK : K = 2 ∨ K = 3) (hG : 1 ≤ G ∧ G ≤ 4) : K ≤ ptN K G := by
  have := ptK G (by omega) hG.1
  rcases hK with rfl | rfl <;> omega
theorem HuR_ex {K G M N p : Nat} {f : Nat → Nat → Nat → Int32} (hK : K = 2 ∨ K = 3) (hG : 1 ≤ G ∧ G ≤ 4) : ∀ d n a, 1 ≤ n → n + d ≤ K + 1 → ∃ r, HuR K G M N p f d n a r
  | 0, _, a, _, _ => ⟨a, rfl⟩
  | d + 1, n, a, h1, h2 => by
    have hp15 := pt15 hK hG
    have hPK := pt_K hK hG
    obtain ⟨l, b, g1, g2⟩ := Rn_ex (T := tryF K G M N p f n) hp15.1 5000 (s0S n) a (val_0 (by omega) (by omega)) (rk_0 hp15.1)
    obtain ⟨r, g3⟩ := HuR_ex hK hG d (n + 1) b (by omega) (by omega)
    exact ⟨r, l, b, g1, g2, g3⟩
theorem HuR_none {K G M N p : Nat} {f : Nat → Nat → Nat → Int32} {r : Option (Option Bst)} : ∀ d n, HuR K G M N p f d n none r → r = none
  | 0, _, h => h
  | d + 1, n, ⟨l, b, _, g2, g3⟩ => by
    have := Rn_none l _ g2
    subst this
    exact HuR_none d (n + 1) g3
theorem pick_ss {n : Nat} {s : Nat × Nat × Nat} {v : Int64 × Int64} {o : Option Bst} : pickF n s v o ≠ some none := by
  cases o with
  | none => exact fun h => by cases h
  | some b =>
    cases hl : lessR v b.2.2 with
    | none => rw [pick_n hl]; exact fun h => by cases h
    | some d =>
      by_cases g : 0 < d.1.toInt
      · rw [pick_t hl g]; exact fun h => by cases h
      · rw [pick_k hl g]; exact fun h => by cases h
theorem try_ss {K G M N p n : Nat} {f : Nat → Nat → Nat → Int32} {s : Nat × Nat × Nat} {a : Option (Option Bst)} (h : a ≠ some none ∨ spB K G p n (gT s) = true) : tryF K G M N p f n s a ≠ some none := by
  cases a with
  | none => exact fun h => by cases h
  | some o =>
    cases hsp : spB K G p n (gT s) with
    | false =>
      rw [try_f hsp]
      rcases h with h | h
      · exact h
      · rw [hsp] at h; cases h
    | true =>
      cases hm : mixF K G M N p f n s with
      | none => rw [try_n hsp hm]; exact fun h => by cases h
      | some v => rw [try_t hsp hm]; exact pick_ss
theorem Rn_ss {K G M N p n P : Nat} {f : Nat → Nat → Nat → Int32} {r : Option (Option Bst)} : ∀ (l : Nat) (s : Option (Nat × Nat × Nat)) (a : Option (Option Bst)), Rn P n (tryF K G M N p f n) l s a r → a ≠ some none → r ≠ some none
  | 0, _, _, h, g => by rw [h.2]; exact g
  | l + 1, _, _, ⟨_, _, h⟩, g => Rn_ss l _ _ h (try_ss (Or.inl g))
theorem HuR_ss {K G M N p : Nat} {f : Nat → Nat → Nat → Int32} {r : Option (Option Bst)} : ∀ d n a, a ≠ some none → HuR K G M N p f d n a r → r ≠ some none
  | 0, _, a, h, g => by rw [show r = a from g]; exact h
  | d + 1, n, a, h, ⟨l, b, _, g2, g3⟩ => HuR_ss d (n + 1) b (Rn_ss l _ _ g2 h) g3
theorem sp_self {K G p : Nat} : spB K G p 1 (gT (p, 0, 0)) = true := by
  refine spB_t.mpr ⟨?_, fun i hi => ?_⟩
  · unfold wOk; rw [if_pos rfl]; rfl
  · rw [show i = 0 by omega]; unfold wUp wNu wDn w1n w2n; simp
/-- a point alone is a set that splits it: some mixture is found -/
theorem Rn_some {K G M N p P : Nat} {f : Nat → Nat → Nat → Int32} {r : Option (Option Bst)} (hp : p < P) : ∀ d i l a, i + d = p → Rn P 1 (tryF K G M N p f 1) l (some (i, 0, 0)) a r → r ≠ some none
  | 0, i, l, a, hi, h => by
    have e : i = p := by omega
    subst e
    obtain ⟨k, -, h⟩ := Rn_inv h
    exact Rn_ss k _ _ h (try_ss (Or.inr sp_self))
  | d + 1, i, l, a, hi, h => by
    obtain ⟨k, -, h⟩ := Rn_inv h
    · have e : nxS P 1 (i, 0, 0) = some (i + 1, 0, 0) := by unfold nxS nr1; rw [if_pos rfl, if_pos (by dsimp only; omega)]
      rw [e] at h
      exact Rn_some hp d (i + 1) _ _ (by omega) h
theorem HuR_some {K G M N p : Nat} {f : Nat → Nat → Nat → Int32} {r : Option (Option Bst)} (hK : K = 2 ∨ K = 3) (hp : p < ptN K G) (h : HuR K G M N p f K 1 (some none) r) : r ≠ some none := by
  obtain ⟨d, rfl⟩ : ∃ d, K = d + 1 := ⟨K - 1, by omega⟩
  obtain ⟨l, b, -, g2, g3⟩ := h
  exact HuR_ss d 2 b (Rn_some hp p 0 l _ (by omega) g2) g3
/-- the component's hull -/
theorem x_hullOf {st0 st : St} {K G M N p : Nat} {f : Nat → Nat → Nat → Int32} {r : Option (Option Bst)} {Φ : St → Nat → Prop} {Φa : St → Prop} (hN : 201 ≤ sN st0) (hX : Xh st0 st K G M N f) (hp : p < ptN K G) (hR : HuR K G M N p f K 1 (some none) r) (h1 : ∀ b, r = some (some b) → ∀ s', Xh st0 s' K G M N f → XB s' K G p (some b) → Φ s' 140) (h2 : r = none → ∀ s', Fr wHx 0 0 st0 s' → jkA s' Φa) : w_X0_hullOf st (Int32.ofNat p) Φ Φa := by
  have q1 := hX.2.1.1
  have q2 := hX.2.1.2.1
  have hp15 := pt15 q1 q2
  have hPK := pt_K q1 q2
  have hss := HuR_some q1 hp hR
  unfold w_X0_hullOf
  intro s1 e1
  have F1 : Fr wHx 0 0 st s1 := by rw [e1]; exact Fr_I Fr_rf (Or.inl (by unfold wHx; omega))
  have B1 : XB s1 K G p none := by rw [e1]; show sI _ 0 23 = 0; rw [gI_pI, if_pos ⟨rfl, rfl⟩]
  have X1 := Xh_st hN hX F1 (fun _ _ h => h)
  clear e1
  have hK0 : ∀ s, Xh st0 s K G M N f → sI s 2 0 = Int32.ofNat K := fun s hx => hx.2.1.2.2.2.2.2.2.2.2.1
  refine loop_up (α := St × Int32) (L := fun m a => w_X0_hullOf_l7 Φ Φa (fun (s81 : St) => w_X0_hullOf_b102 Φ Φa s81) m a.1 (Int32.ofNat p) a.2) (K + 1) (fun i a => a.2 = Int32.ofNat i ∧ 1 ≤ i ∧ Xh st0 a.1 K G M N f ∧ ∃ o, XB a.1 K G p o ∧ HuR K G M N p f (K + 1 - i) i (some o) r) (fun m i a hi hA k9 => ?_) (fun m a hA => ?_) gFU 1 (s1, 1) (by omega) (gFU_big (by omega)) ⟨rfl, by omega, X1, none, B1, hR⟩
  · obtain ⟨s, x⟩ := a
    obtain ⟨e, i1, X, o, B, R⟩ := hA
    dsimp only at e X B
    subst e
    show w_X0_hullOf_l7 Φ Φa _ (m + 1) s _ _
    have hNs : 201 ≤ sN s := Nat.le_trans hN X.1.1
    obtain ⟨d, hd⟩ : ∃ d, K + 1 - i = d + 1 := ⟨K - i, by omega⟩
    rw [hd] at R
    obtain ⟨l, b, gl, g2, g3⟩ := R
    rw [w_X0_hullOf_l7, hK0 s X, lt_of (by omega) (by omega)]
    refine ⟨fun h => absurd h (by omega), fun _ => ?_⟩
    refine x_first hNs (by omega) (by omega) hp15.1 X.2.1.2.2.2.2.2.2.2.2.2.2.2.2.1 (fun s5 F5 v5 => ?_)
    have X5 := Xh_st hN X F5 (fun a j h => Or.inr (Or.inr (Or.inl h)))
    have B5 := XB_st (by omega) hNs F5 (fun a j h => Or.inr (Or.inr (Or.inl h))) B
    refine x_hl hN hp (by omega) (r := b) (fun o' ho s' X' B' => ?_) (fun ho s' F' => ?_) l (s0S i) o gFU s5 (val_0 (by omega) (by omega)) g2 (gFU_big (by omega)) X5 B5 v5
    · unfold w_X0_hullOf_b93 w_X0_hullOf_b96
      have hk := k9 (s', Int32.ofNat i + 1)
      dsimp only at hk
      refine hk ⟨succ_of i, by omega, X', o', B', ?_⟩
      rw [ho] at g3
      rw [show K + 1 - (i + 1) = d by omega]
      exact g3
    · rw [ho] at g3
      exact h2 (HuR_none d (i + 1) g3) s' F'
  · obtain ⟨s, x⟩ := a
    obtain ⟨e, i1, X, o, B, R⟩ := hA
    dsimp only at e X B
    subst e
    show w_X0_hullOf_l7 Φ Φa _ (m + 1) s _ _
    rw [w_X0_hullOf_l7, hK0 s X, lt_of (by omega) (by omega)]
    refine ⟨fun _ => ?_, fun h => absurd (by omega) h⟩
    unfold w_X0_hullOf_b102
    rw [show K + 1 - (K + 1) = 0 by omega] at R
    have R' : r = some o := R
    cases o with
    | none => exact absurd R' hss
    | some b => exact h1 b R' s X B
/-! the reference's loops over sets -/
theorem nr2_e {P i : Nat} (h : i < P) : nr2 P i P = nr2 P (i + 1) (i + 2) := by
  unfold nr2
  rw [if_neg (by omega)]
  by_cases e : i + 2 < P
  · rw [if_pos e, if_pos e]
  · rw [if_neg e, if_neg e, if_neg (by omega)]
theorem nr3_e {P i j : Nat} (h : i < j) (hj : j < P) : nr3 P i j P = nr3 P i (j + 1) (j + 2) := by
  unfold nr3
  rw [if_neg (by omega)]
  by_cases e : j + 2 < P
  · rw [if_pos e, if_pos e]
  · rw [if_neg e, if_neg e]
    by_cases g : i + 3 < P
    · rw [if_pos g, if_neg (by omega)]
    · rw [if_neg g, if_neg (by omega)]
theorem nr3_f {P i : Nat} (h : i < P) : nr3 P i P (P + 1) = nr3 P (i + 1) (i + 2) (i + 3) := by
  unfold nr3
  rw [if_neg (by omega), if_neg (by omega)]
  by_cases e : i + 3 < P
  · rw [if_pos e, if_pos e]
  · rw [if_neg e, if_neg e, if_neg (by omega), if_neg (by omega)]
/-- what holds of the reference's store at a set -/
def Zm (st0 st : St) (K G M N p : Nat) (f : Nat → Nat → Nat → Int32) (n : Nat) (q : Option (Nat × Nat × Nat)) (r : Option (Option Bst)) : Prop := Xm st0 st K G M N f ∧ sI st 175 36 = Int32.ofNat n ∧ ∃ a l, MB st K G M N p f a ∧ Rn (ptN K G) n (tryF K G M N p f n) l q a r
theorem Zm_end {st0 st : St} {K G M N p : Nat} {f : Nat → Nat → Nat → Int32} {n : Nat} {r : Option (Option Bst)} (h : Zm st0 st K G M N p f n none r) : Xm st0 st K G M N f ∧ MB st K G M N p f r := by
  obtain ⟨h1, -, a, l, h2, h3⟩ := h
  rw [Rn_end h3]
  exact ⟨h1, h2⟩
/-- one set tried -/
theorem Zm_try {st0 st s : St} {K G M N p : Nat} {f : Nat → Nat → Nat → Int32} {n : Nat} {t : Nat × Nat × Nat} {r : Option (Option Bst)} {Φ : St → Prop} (hN : 201 ≤ sN st0) (hp : p < ptN K G) (hV : Val (ptN K G) n t) (hnK : n ≤ K) (h : Zm st0 st K G M N p f n (some t) r) (hF : Fr (fun a j => a = 197 ∧ j < 3) 0 0 st s) (hv : ∀ k, k < n → sI s 197 k = Int32.ofNat (gT t k)) (hk : ∀ s', Zm st0 s' K G M N p f n (nxS (ptN K G) n t) r → Φ s') : w_X4_tries s (Int32.ofNat p) Φ := by
  obtain ⟨h1, h36, a, l, h2, h3⟩ := h
  have q1 := h1.2.1.1
  have q2 := h1.2.1.2.1
  have hp15 := pt15 q1 q2
  have hNs : 201 ≤ sN st := Nat.le_trans hN h1.1.1
  have X := Xm_st hN h1 hF (fun a j h => Or.inr (Or.inr (Or.inr (Or.inl h))))
  have B := MB_st hp15.1 (by omega) hNs hF (fun a j h => Or.inr (Or.inr h.1)) h2
  obtain ⟨k, -, h3⟩ := Rn_inv h3
  · refine m_tries hN X hp hV hnK B ((fr_at hF (Or.inl (by omega)) (by omega)).1.trans h36) hv (fun s' X' B' z' => hk s' ⟨X', z', _, _, B', h3⟩)
theorem m_h1 {st0 : St} {K G M N p : Nat} {f : Nat → Nat → Nat → Int32} {r : Option (Option Bst)} {Φ : St → Prop} {E : St → Int32 → Int32 → Prop} (hN : 201 ≤ sN st0) (hK : K = 2 ∨ K = 3) (hP15 : ptN K G ≤ 15) (hp : p < ptN K G) (h : ∀ s, Zm st0 s K G M N p f 1 none r → E s (Int32.ofNat p) (Int32.ofNat (ptN K G))) {st : St} (hZ : Zm st0 st K G M N p f 1 (nr1 (ptN K G) 0) r) : w_X4_hullOf_l17 Φ E gFU st (Int32.ofNat p) (Int32.ofNat (ptN K G)) 0 := by
  refine loop_up (α := St × Int32) (L := fun m a => w_X4_hullOf_l17 Φ E m a.1 (Int32.ofNat p) (Int32.ofNat (ptN K G)) a.2) (ptN K G) (fun i a => a.2 = Int32.ofNat i ∧ Zm st0 a.1 K G M N p f 1 (nr1 (ptN K G) i) r) (fun m i a hi hA k9 => ?_) (fun m a hA => ?_) gFU 0 (st, 0) (by omega) (gFU_big (by omega)) ⟨rfl, hZ⟩
  · obtain ⟨s, x⟩ := a
    obtain ⟨e, Z⟩ := hA
    dsimp only at e Z
    subst e
    show w_X4_hullOf_l17 Φ E (m + 1) s _ _ _
    rw [show nr1 (ptN K G) i = some (i, 0, 0) from if_pos hi] at Z
    rw [w_X4_hullOf_l17, le_of (by omega) (by omega)]
    refine ⟨fun h => absurd h (by omega), fun _ => ?_⟩
    intro s14 e14
    refine Zm_try hN hp (Or.inl ⟨rfl, hi, rfl, rfl⟩) (by omega) Z (by rw [e14]; exact Fr_I Fr_rf (Or.inl ⟨rfl, by omega⟩)) (fun k hk => ?_) (fun s' Z' => ?_)
    · rw [show k = 0 by omega, e14, gI_pI, if_pos ⟨rfl, rfl⟩]; rfl
    · have hk := k9 (s', Int32.ofNat i + 1)
      dsimp only at hk
      exact hk ⟨succ_of i, Z'⟩
  · obtain ⟨s, x⟩ := a
    obtain ⟨e, Z⟩ := hA
    dsimp only at e Z
    subst e
    show w_X4_hullOf_l17 Φ E (m + 1) s _ _ _
    rw [show nr1 (ptN K G) (ptN K G) = none from if_neg (by omega)] at Z
    rw [w_X4_hullOf_l17]
    exact ⟨fun _ => h s Z, fun h => absurd (Int32.le_refl _) h⟩
theorem m_h2 {st0 : St} {K G M N p : Nat} {f : Nat → Nat → Nat → Int32} {r : Option (Option Bst)} {Φ : St → Prop} {E : St → Int32 → Int32 → Prop} (hN : 201 ≤ sN st0) (hK : K = 2 ∨ K = 3) (hP15 : ptN K G ≤ 15) (hp : p < ptN K G) (h : ∀ s, Zm st0 s K G M N p f 2 none r → E s (Int32.ofNat p) (Int32.ofNat (ptN K G))) {st : St} (hZ : Zm st0 st K G M N p f 2 (nr2 (ptN K G) 0 1) r) : w_X4_hullOf_l47 Φ E gFU st (Int32.ofNat p) (Int32.ofNat (ptN K G)) 0 := by
  generalize hPP : ptN K G = P at *
  refine loop_up (α := St × Int32) (L := fun m a => w_X4_hullOf_l47 Φ E m a.1 (Int32.ofNat p) (Int32.ofNat P) a.2) P (fun i a => a.2 = Int32.ofNat i ∧ Zm st0 a.1 K G M N p f 2 (nr2 P i (i + 1)) r) (fun m i a hi hA k9 => ?_) (fun m a hA => ?_) gFU 0 (st, 0) (by omega) (gFU_big (by omega)) ⟨rfl, hZ⟩
  · obtain ⟨s, x⟩ := a
    obtain ⟨e, Z⟩ := hA
    dsimp only at e Z
    subst e
    show w_X4_hullOf_l47 Φ E (m + 1) s _ _ _
    rw [w_X4_hullOf_l47, le_of (by omega) (by omega)]
    refine ⟨fun h => absurd h (by omega), fun _ => ?_⟩
    rintro _ rfl
    rw [succ_of]
    refine loop_up (α := St × Int32) (L := fun m' a => w_X4_hullOf_l57 Φ (fun (s43 : St) (x1 : Int32) (x2 : Int32) (x3 : Int32) => w_X4_hullOf_b89 Φ (w_X4_hullOf_l47 Φ E m) s43 x1 x2 x3) m' a.1 (Int32.ofNat p) (Int32.ofNat P) (Int32.ofNat i) a.2) P (fun j a => a.2 = Int32.ofNat j ∧ i < j ∧ Zm st0 a.1 K G M N p f 2 (nr2 P i j) r) (fun m' j a hj hB k8 => ?_) (fun m' a hB => ?_) gFU (i + 1) (s, Int32.ofNat (i + 1)) (by omega) (gFU_big (by omega)) ⟨rfl, by omega, Z⟩
    · obtain ⟨s2, y⟩ := a
      obtain ⟨e, hij, Z2⟩ := hB
      dsimp only at e Z2
      subst e
      show w_X4_hullOf_l57 Φ _ (m' + 1) s2 _ _ _ _
      rw [show nr2 P i j = some (i, j, 0) from if_pos hj] at Z2
      rw [w_X4_hullOf_l57, le_of (by omega) (by omega)]
      refine ⟨fun h => absurd h (by omega), fun _ => ?_⟩
      intro s31 e31 s33 e33
      refine Zm_try hN (by rw [hPP]; exact hp) (by rw [hPP]; exact Or.inr (Or.inl ⟨rfl, hij, hj, rfl⟩)) (by omega) Z2 (by rw [e33, e31]; exact Fr_I (Fr_I Fr_rf (Or.inl ⟨rfl, by omega⟩)) (Or.inl ⟨rfl, by omega⟩)) (fun k hk => ?_) (fun s' Z' => ?_)
      · rcases (by omega : k = 0 ∨ k = 1) with rfl | rfl
        · rw [e33, gI_pI, if_neg (by omega), e31, gI_pI, if_pos ⟨rfl, rfl⟩]; rfl
        · rw [e33, gI_pI, if_pos ⟨rfl, rfl⟩]; rfl
      · have hk := k8 (s', Int32.ofNat j + 1)
        dsimp only at hk
        rw [hPP] at Z'
        exact hk ⟨succ_of j, by omega, Z'⟩
    · obtain ⟨s2, y⟩ := a
      obtain ⟨e, hij, Z2⟩ := hB
      dsimp only at e Z2
      subst e
      show w_X4_hullOf_l57 Φ _ (m' + 1) s2 _ _ _ _
      rw [w_X4_hullOf_l57]
      refine ⟨fun _ => ?_, fun h => absurd (Int32.le_refl _) h⟩
      unfold w_X4_hullOf_b89
      rw [nr2_e hi] at Z2
      have hk := k9 (s2, Int32.ofNat i + 1)
      dsimp only at hk
      exact hk ⟨succ_of i, Z2⟩
  · obtain ⟨s, x⟩ := a
    obtain ⟨e, Z⟩ := hA
    dsimp only at e Z
    subst e
    show w_X4_hullOf_l47 Φ E (m + 1) s _ _ _
    rw [show nr2 P P (P + 1) = none by unfold nr2; rw [if_neg (by omega), if_neg (by omega)]] at Z
    rw [w_X4_hullOf_l47]
    exact ⟨fun _ => h s Z, fun h => absurd (Int32.le_refl _) h⟩
theorem m_h3 {st0 : St} {K G M N p : Nat} {f : Nat → Nat → Nat → Int32} {r : Option (Option Bst)} {Φ : St → Prop} {E : St → Prop} (hN : 201 ≤ sN st0) (hK : K = 3) (hP15 : ptN K G ≤ 15) (hp : p < ptN K G) (h : ∀ s, Zm st0 s K G M N p f 3 none r → E s) {st : St} (hZ : Zm st0 st K G M N p f 3 (nr3 (ptN K G) 0 1 2) r) : w_X4_hullOf_l102 Φ E gFU st (Int32.ofNat p) (Int32.ofNat (ptN K G)) 0 := by
  have hK0 : ∀ s, Xm st0 s K G M N f → sI s 177 0 = Int32.ofNat K := fun s hx => hx.2.1.2.2.2.2.1
  generalize hPP : ptN K G = P at *
  refine loop_up (α := St × Int32) (L := fun m a => w_X4_hullOf_l102 Φ E m a.1 (Int32.ofNat p) (Int32.ofNat P) a.2) P (fun i a => a.2 = Int32.ofNat i ∧ Zm st0 a.1 K G M N p f 3 (nr3 P i (i + 1) (i + 2)) r) (fun m i a hi hA k9 => ?_) (fun m a hA => ?_) gFU 0 (st, 0) (by omega) (gFU_big (by omega)) ⟨rfl, hZ⟩
  · obtain ⟨s, x⟩ := a
    obtain ⟨e, Z⟩ := hA
    dsimp only at e Z
    subst e
    show w_X4_hullOf_l102 Φ E (m + 1) s _ _ _
    rw [w_X4_hullOf_l102, le_of (by omega) (by omega), hK0 s Z.1, hK]
    refine ⟨fun h => absurd h (by omega), fun _ => ⟨fun h => absurd rfl h, fun _ => ?_⟩⟩
    rintro _ rfl
    rw [succ_of]
    refine loop_up (α := St × Int32) (L := fun m' a => w_X4_hullOf_l122 Φ (fun (s70 : St) (x1 : Int32) (x2 : Int32) (x3 : Int32) => w_X4_hullOf_b180 Φ (w_X4_hullOf_l102 Φ E m) s70 x1 x2 x3) m' a.1 (Int32.ofNat p) (Int32.ofNat P) (Int32.ofNat i) a.2) P (fun j a => a.2 = Int32.ofNat j ∧ i < j ∧ Zm st0 a.1 K G M N p f 3 (nr3 P i j (j + 1)) r) (fun m' j a hj hB k8 => ?_) (fun m' a hB => ?_) gFU (i + 1) (s, Int32.ofNat (i + 1)) (by omega) (gFU_big (by omega)) ⟨rfl, by omega, Z⟩
    · obtain ⟨s2, y⟩ := a
      obtain ⟨e, hij, Z2⟩ := hB
      dsimp only at e Z2
      subst e
      show w_X4_hullOf_l122 Φ _ (m' + 1) s2 _ _ _ _
      rw [w_X4_hullOf_l122, le_of (by omega) (by omega)]
      refine ⟨fun h => absurd h (by omega), fun _ => ?_⟩
      rintro _ rfl
      rw [succ_of]
      refine loop_up (α := St × Int32) (L := fun m'' a => w_X4_hullOf_l134 Φ (fun (s69 : St) (x1 : Int32) (x2 : Int32) (x3 : Int32) (x4 : Int32) => w_X4_hullOf_b174 Φ (w_X4_hullOf_l122 Φ (fun (s70 : St) (x1 : Int32) (x2 : Int32) (x3 : Int32) => w_X4_hullOf_b180 Φ (w_X4_hullOf_l102 Φ E m) s70 x1 x2 x3) m') s69 x1 x2 x3 x4) m'' a.1 (Int32.ofNat p) (Int32.ofNat P) (Int32.ofNat i) (Int32.ofNat j) a.2) P (fun k a => a.2 = Int32.ofNat k ∧ j < k ∧ Zm st0 a.1 K G M N p f 3 (nr3 P i j k) r) (fun m'' k a hk hC k7 => ?_) (fun m'' a hC => ?_) gFU (j + 1) (s2, Int32.ofNat (j + 1)) (by omega) (gFU_big (by omega)) ⟨rfl, by omega, Z2⟩
      · obtain ⟨s3, z⟩ := a
        obtain ⟨e, hjk, Z3⟩ := hC
        dsimp only at e Z3
        subst e
        show w_X4_hullOf_l134 Φ _ (m'' + 1) s3 _ _ _ _ _
        rw [show nr3 P i j k = some (i, j, k) from if_pos hk] at Z3
        rw [w_X4_hullOf_l134, le_of (by omega) (by omega)]
        refine ⟨fun h => absurd h (by omega), fun _ => ?_⟩
        intro s55 e55 s57 e57 s59 e59
        refine Zm_try hN (by rw [hPP]; exact hp) (by rw [hPP]; exact Or.inr (Or.inr ⟨rfl, hij, hjk, hk⟩)) (by omega) Z3 (by rw [e59, e57, e55]; exact Fr_I (Fr_I (Fr_I Fr_rf (Or.inl ⟨rfl, by omega⟩)) (Or.inl ⟨rfl, by omega⟩)) (Or.inl ⟨rfl, by omega⟩)) (fun u hu => ?_) (fun s' Z' => ?_)
        · rcases (by omega : u = 0 ∨ u = 1 ∨ u = 2) with rfl | rfl | rfl
          · rw [e59, gI_pI, if_neg (by omega), e57, gI_pI, if_neg (by omega), e55, gI_pI, if_pos ⟨rfl, rfl⟩]; rfl
          · rw [e59, gI_pI, if_neg (by omega), e57, gI_pI, if_pos ⟨rfl, rfl⟩]; rfl
          · rw [e59, gI_pI, if_pos ⟨rfl, rfl⟩]; rfl
        · have hk7 := k7 (s', Int32.ofNat k + 1)
          dsimp only at hk7
          rw [hPP] at Z'
          exact hk7 ⟨succ_of k, by omega, Z'⟩
      · obtain ⟨s3, z⟩ := a
        obtain ⟨e, hjk, Z3⟩ := hC
        dsimp only at e Z3
        subst e
        show w_X4_hullOf_l134 Φ _ (m'' + 1) s3 _ _ _ _ _
        rw [w_X4_hullOf_l134]
        refine ⟨fun _ => ?_, fun h => absurd (Int32.le_refl _) h⟩
        unfold w_X4_hullOf_b174
        rw [nr3_e hij hj] at Z3
        have hk8 := k8 (s3, Int32.ofNat j + 1)
        dsimp only at hk8
        exact hk8 ⟨succ_of j, by omega, Z3⟩
    · obtain ⟨s2, y⟩ := a
      obtain ⟨e, hij, Z2⟩ := hB
      dsimp only at e Z2
      subst e
      show w_X4_hullOf_l122 Φ _ (m' + 1) s2 _ _ _ _
      rw [w_X4_hullOf_l122]
      refine ⟨fun _ => ?_, fun h => absurd (Int32.le_refl _) h⟩
      unfold w_X4_hullOf_b180
      rw [nr3_f hi] at Z2
      have hk := k9 (s2, Int32.ofNat i + 1)
      dsimp only at hk
      exact hk ⟨succ_of i, Z2⟩
  · obtain ⟨s, x⟩ := a
    obtain ⟨e, Z⟩ := hA
    dsimp only at e Z
    subst e
    show w_X4_hullOf_l102 Φ E (m + 1) s _ _ _
    rw [show nr3 P P (P + 1) (P + 2) = none by unfold nr3; rw [if_neg (by omega), if_neg (by omega), if_neg (by omega)]] at Z
    rw [w_X4_hullOf_l102]
    exact ⟨fun _ => h s Z, fun h => absurd (Int32.le_refl _) h⟩
/-- the reference's hull -/
theorem m_hullOf {st : St} {K G M N p : Nat} {r : Option (Option Bst)} {Φ : St → Prop} (hN : 201 ≤ sN st) (hs : Hs st K G M N) (hp : p < ptN K G) (h20 : sI st 175 20 = 0) (hm : Mm st K G M N (gmF st)) (hR : HuR K G M N p (gmF st) K 1 (some none) r) (h : ∀ s, Xm st s K G M N (gmF st) → MB s K G M N p (gmF st) r → sL s 175 18 = sL s 175 43 → sL s 175 19 = sL s 175 44 → Φ s) : w_X4_hullOf st (Int32.ofNat p) Φ := by
  have hh := hs
  obtain ⟨q1, q2, q3, q4, q5, q6, q7, q8, -⟩ := hh
  have hp15 := pt15 q1 q2
  obtain ⟨l1, r1, -, R1, l2, r2, -, R2, R3⟩ : ∃ l1 r1, l1 ≤ 5000 ∧ Rn (ptN K G) 1 (tryF K G M N p (gmF st) 1) l1 (some (s0S 1)) (some none) r1 ∧ ∃ l2 r2, l2 ≤ 5000 ∧ Rn (ptN K G) 2 (tryF K G M N p (gmF st) 2) l2 (some (s0S 2)) r1 r2 ∧ HuR K G M N p (gmF st) (K - 2) 3 r2 r := by
    obtain ⟨d, rfl⟩ : ∃ d, K = d + 2 := ⟨K - 2, by omega⟩
    obtain ⟨l1, r1, a1, a2, l2, r2, a3, a4, a5⟩ := hR
    exact ⟨l1, r1, a1, a2, l2, r2, a3, a4, a5⟩
  unfold w_X4_hullOf
  intro s1 e1
  have F1 : Fr wHm 0 0 st s1 := by rw [e1]; exact Fr_I Fr_rf (Or.inl (Or.inr (Or.inr (Or.inl (Or.inl ⟨rfl, by omega⟩)))))
  have i1 : ∀ a j, ¬ (a = 175 ∧ j = 41) → sI s1 a j = sI st a j := fun a j h => by rw [e1, gI_pI, if_neg h]
  have l9 : ∀ a j, sL s1 a j = sL st a j := fun a j => by rw [e1, gL_pI]
  have v41 : sI s1 175 41 = 0 := by rw [e1, gI_pI, if_pos ⟨rfl, rfl⟩]
  clear e1
  rw [pe_X4_points ((i1 177 0 (by omega)).trans q5) ((i1 177 1 (by omega)).trans q6) q1 q2]
  have X0 : Xm st st K G M N (gmF st) := ⟨Fr_rf, hs, rfl⟩
  have X1 := Xm_st hN X0 F1 (fun _ _ h => h)
  have hPK := pt_K q1 q2
  -- a new size
  have put : ∀ {s s' : St} {n : Nat} {a : Option (Option Bst)}, Xm st s K G M N (gmF st) → MB s K G M N p (gmF st) a → s' = putI s 175 36 (Int32.ofNat n) → Xm st s' K G M N (gmF st) ∧ sI s' 175 36 = Int32.ofNat n ∧ MB s' K G M N p (gmF st) a := fun {s s' n a} X B e => by
    have F : Fr (fun a j => a = 175 ∧ j = 36) 0 0 s s' := by rw [e]; exact Fr_I Fr_rf (Or.inl ⟨rfl, rfl⟩)
    exact ⟨Xm_st hN X F (fun a j h => Or.inr (Or.inr (Or.inr (Or.inr h)))), by rw [e, gI_pI, if_pos ⟨rfl, rfl⟩], MB_st hp15.1 (by omega) (Nat.le_trans hN X.1.1) F (fun a j h => Or.inl ⟨h.1, Or.inr (Or.inl h.2)⟩) B⟩
  have fin : ∀ s, Xm st s K G M N (gmF st) → MB s K G M N p (gmF st) r → w_X4_hullOf_b186 Φ s := fun s X B => by
    unfold w_X4_hullOf_b186 w_X4_is
    intro s2 e2 s3 e3
    have F3 : Fr (fun a j => a = 175 ∧ (j = 18 ∨ j = 19)) 0 0 s s3 := by rw [e3, e2]; exact Fr_L (Fr_L Fr_rf (Or.inl ⟨rfl, Or.inl rfl⟩)) (Or.inl ⟨rfl, Or.inr rfl⟩)
    refine h s3 (Xm_st hN X F3 (fun a j h => Or.inl (Or.inr (Or.inr (Or.inl ⟨h.1, by omega⟩))))) (MB_st hp15.1 (by omega) (Nat.le_trans hN X.1.1) F3 (fun a j h => Or.inl ⟨h.1, by omega⟩) B) ?_ ?_
    · rw [e3, gL_pL, if_neg (by omega), e2, gL_pL, if_pos ⟨rfl, rfl⟩, gL_pL, if_neg (by omega), gL_pL, if_neg (by omega)]
    · rw [e3, gL_pL, if_pos ⟨rfl, rfl⟩, e2, gL_pL, if_neg (by omega), gL_pL, if_neg (by omega)]
  have B1 : MB s1 K G M N p (gmF st) (some none) := ⟨(i1 175 20 (by omega)).trans h20, fun q hq => by rw [i1 196 q (by omega), l9, l9]; exact hm q hq, v41⟩
  intro s11 e11
  obtain ⟨X11, z11, B11⟩ := put (n := 1) X1 B1 e11
  refine m_h1 (r := r1) hN q1 hp15.1 hp (fun s Z => ?_) ⟨X11, z11, some none, l1, B11, by rw [show nr1 (ptN K G) 0 = some (0, 0, 0) from if_pos (by omega)]; exact R1⟩
  obtain ⟨X, B⟩ := Zm_end Z
  unfold w_X4_hullOf_b40
  intro s25 e25
  obtain ⟨X25, z25, B25⟩ := put (n := 2) X B e25
  refine m_h2 (r := r2) hN q1 hp15.1 hp (fun s Z => ?_) ⟨X25, z25, r1, l2, B25, by rw [show nr2 (ptN K G) 0 1 = some (0, 1, 0) from if_pos (by omega)]; exact R2⟩
  obtain ⟨X, B⟩ := Zm_end Z
  unfold w_X4_hullOf_b95
  intro s45 e45
  obtain ⟨X45, z45, B45⟩ := put (n := 3) X B e45
  rcases q1 with k2 | k3
  · have R3' : r = r2 := by rw [k2] at R3; exact R3
    obtain ⟨fu, hfu⟩ : ∃ fu, gFU = fu + 1 := ⟨gFU - 1, by unfold gFU; omega⟩
    have z0 : (Int32.ofNat (ptN K G) ≤ (0 : Int32)) = (ptN K G ≤ 0) := le_of (n := 0) (by omega) (by omega)
    rw [hfu, w_X4_hullOf_l102, z0, X45.2.1.2.2.2.2.1, k2]
    refine ⟨fun h => absurd h (by rw [← k2]; omega), fun _ => ⟨fun _ => ?_, fun h => absurd h (by decide)⟩⟩
    exact fin s45 X45 (by rw [R3']; exact B45)
  · have hPK3 : 3 ≤ ptN K G := by omega
    have R4 : ∃ l3, Rn (ptN K G) 3 (tryF K G M N p (gmF st) 3) l3 (some (s0S 3)) r2 r := by
      rw [k3] at R3 ⊢
      obtain ⟨l3, r3, -, a2, a3⟩ := R3
      have a3' : r = r3 := a3
      rw [a3']
      exact ⟨l3, a2⟩
    obtain ⟨l3, R4⟩ := R4
    refine m_h3 (r := r) hN k3 hp15.1 hp (fun s Z => ?_) ⟨X45, z45, r2, l3, B45, by rw [show nr3 (ptN K G) 0 1 2 = some (0, 1, 2) from if_pos (by omega)]; exact R4⟩
    obtain ⟨X, B⟩ := Zm_end Z
    exact fin s X B
