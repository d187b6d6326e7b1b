/-! PLAIN LAW, 28: whether a square solves the table: the component, on -/
set_option maxRecDepth 100000
theorem s_holdsRows {st : St} {T : Nat → Nat → Int64} {h w n : Nat} {I J : Nat → Nat} {C : Nat → Int64} {V : Int64} {Φ : St → Int32 → Prop} (hn : n ≤ 3) (hh : h ≤ 27) (hw : w ≤ 3) (hT : Tb st T h w) (hP : Pl st n I J) (hJ : ∀ i, i < n → J i < w) (hC : ∀ k, k < n → sL st 132 k = C k) (hV : sL st 0 17 = V) (h1 : (∀ r, r < h → smL (fun k => C k * T r (J k)) n ≤ V) → Φ st 1) (h0 : (∃ r, r < h ∧ ¬ smL (fun k => C k * T r (J k)) n ≤ V) → Φ st 0) : w_X0_holdsRows st (Int32.ofNat n) Φ := by
  unfold w_X0_holdsRows
  refine loop_up (α := Int32) (L := fun m x => w_X0_holdsRows_l2 Φ (fun (s10 : St) => w_X0_holdsRows_b61 Φ s10) (fun (s11 : St) => w_X0_holdsRows_b69 Φ s11) m st (Int32.ofNat n) x) h (fun i x => x = Int32.ofNat i ∧ ∀ r, r < i → smL (fun k => C k * T r (J k)) n ≤ V) (fun m i x hi hA k9 => ?_) (fun m x hA => ?_) gFU 0 0 (by omega) (gFU_big (by omega)) ⟨rfl, fun r hr => absurd hr (by omega)⟩
  · obtain ⟨rfl, hg⟩ := hA
    show w_X0_holdsRows_l2 Φ _ _ (m + 1) st _ _
    rw [w_X0_holdsRows_l2, hT.1, le_of (by omega) (by omega)]
    refine ⟨fun h => absurd h (by omega), fun _ => ?_⟩
    refine loop_up (α := Int64 × Int32) (L := fun m' a => w_X0_holdsRows_l15 Φ (fun (s8 : St) (x1 : Int32) (x2 : Int32) (x3 : Int64) => w_X0_holdsRows_b52 Φ (fun (s10 : St) => w_X0_holdsRows_b61 Φ s10) (w_X0_holdsRows_l2 Φ (fun (s10 : St) => w_X0_holdsRows_b61 Φ s10) (fun (s11 : St) => w_X0_holdsRows_b69 Φ s11) m) s8 x1 x2 x3) m' st (Int32.ofNat n) (Int32.ofNat i) a.1 a.2) n (fun j a => a = (smL (fun k => C k * T i (J k)) j, Int32.ofNat j)) (fun m' j a hj hB k8 => ?_) (fun m' a hB => ?_) gFU 0 (0, 0) (by omega) (gFU_big (by omega)) rfl
    · subst hB
      show w_X0_holdsRows_l15 Φ _ (m' + 1) st _ _ _ _
      dsimp only
      have nj : (Int32.ofNat j).toNatClampNeg = j := nn_of (by omega)
      have hJj := hJ j hj
      rw [w_X0_holdsRows_l15, le_of (by omega) (by omega), nj, (hP j hj).2, hC j hj, vp_of (by omega), vp_of (by omega), vp_of (by omega), nn_of (by omega), nn_of (by omega), hT.2.2 i (J j) hi hJj]
      refine ⟨fun h => absurd h (by omega), fun _ => ⟨by omega, by omega, by omega, ?_⟩⟩
      rintro _ rfl
      refine k8 (_, _) ?_
      rw [succ_of]; rfl
    · subst hB
      show w_X0_holdsRows_l15 Φ _ (m' + 1) st _ _ _ _
      dsimp only
      rw [w_X0_holdsRows_l15]
      refine ⟨fun _ => ?_, fun h => absurd (Int32.le_refl _) h⟩
      unfold w_X0_holdsRows_b52 w_X0_holdsRows_b61
      rw [hV]
      refine ⟨fun hle => k9 _ ⟨succ_of i, fun r hr => ?_⟩, fun hle => h0 ⟨i, hi, hle⟩⟩
      by_cases e : r = i
      · rw [e]; exact hle
      · exact hg r (by omega)
  · obtain ⟨rfl, hg⟩ := hA
    show w_X0_holdsRows_l2 Φ _ _ (m + 1) st _ _
    rw [w_X0_holdsRows_l2, hT.1]
    exact ⟨fun _ => h1 hg, fun h => absurd (Int32.le_refl _) h⟩
theorem s_holdsColumns {st : St} {T : Nat → Nat → Int64} {h w n : Nat} {I J : Nat → Nat} {R : Nat → Int64} {V : Int64} {Φ : St → Int32 → Prop} (hn : n ≤ 3) (hh : h ≤ 27) (hw : w ≤ 3) (hT : Tb st T h w) (hP : Pl st n I J) (hI : ∀ i, i < n → I i < h) (hR : ∀ k, k < n → sL st 131 k = R k) (hV : sL st 0 17 = V) (h1 : (∀ c, c < w → V ≤ smL (fun k => R k * T (I k) c) n) → Φ st 1) (h0 : (∃ c, c < w ∧ ¬ V ≤ smL (fun k => R k * T (I k) c) n) → Φ st 0) : w_X0_holdsColumns st (Int32.ofNat n) Φ := by
  unfold w_X0_holdsColumns
  refine loop_up (α := Int32) (L := fun m x => w_X0_holdsColumns_l2 Φ (fun (s10 : St) => w_X0_holdsColumns_b61 Φ s10) (fun (s11 : St) => w_X0_holdsColumns_b69 Φ s11) m st (Int32.ofNat n) x) w (fun i x => x = Int32.ofNat i ∧ ∀ c, c < i → V ≤ smL (fun k => R k * T (I k) c) n) (fun m i x hi hA k9 => ?_) (fun m x hA => ?_) gFU 0 0 (by omega) (gFU_big (by omega)) ⟨rfl, fun r hr => absurd hr (by omega)⟩
  · obtain ⟨rfl, hg⟩ := hA
    show w_X0_holdsColumns_l2 Φ _ _ (m + 1) st _ _
    rw [w_X0_holdsColumns_l2, hT.2.1, le_of (by omega) (by omega)]
    refine ⟨fun h => absurd h (by omega), fun _ => ?_⟩
    refine loop_up (α := Int64 × Int32) (L := fun m' a => w_X0_holdsColumns_l15 Φ (fun (s8 : St) (x1 : Int32) (x2 : Int32) (x3 : Int64) => w_X0_holdsColumns_b52 Φ (fun (s10 : St) => w_X0_holdsColumns_b61 Φ s10) (w_X0_holdsColumns_l2 Φ (fun (s10 : St) => w_X0_holdsColumns_b61 Φ s10) (fun (s11 : St) => w_X0_holdsColumns_b69 Φ s11) m) s8 x1 x2 x3) m' st (Int32.ofNat n) (Int32.ofNat i) a.1 a.2) n (fun j a => a = (smL (fun k => R k * T (I k) i) j, Int32.ofNat j)) (fun m' j a hj hB k8 => ?_) (fun m' a hB => ?_) gFU 0 (0, 0) (by omega) (gFU_big (by omega)) rfl
    · subst hB
      show w_X0_holdsColumns_l15 Φ _ (m' + 1) st _ _ _ _
      dsimp only
      have nj : (Int32.ofNat j).toNatClampNeg = j := nn_of (by omega)
      have hIj := hI j hj
      rw [w_X0_holdsColumns_l15, le_of (by omega) (by omega), nj, (hP j hj).1, hR j hj, vp_of (by omega), vp_of (by omega), vp_of (by omega), nn_of (by omega), nn_of (by omega), hT.2.2 (I j) i hIj hi]
      refine ⟨fun h => absurd h (by omega), fun _ => ⟨by omega, by omega, by omega, ?_⟩⟩
      rintro _ rfl
      refine k8 (_, _) ?_
      rw [succ_of]; rfl
    · subst hB
      show w_X0_holdsColumns_l15 Φ _ (m' + 1) st _ _ _ _
      dsimp only
      rw [w_X0_holdsColumns_l15]
      refine ⟨fun _ => ?_, fun h => absurd (Int32.le_refl _) h⟩
      unfold w_X0_holdsColumns_b52 w_X0_holdsColumns_b61
      rw [hV]
      refine ⟨fun hle => k9 _ ⟨succ_of i, fun r hr => ?_⟩, fun hle => h0 ⟨i, hi, hle⟩⟩
      by_cases e : r = i
      · rw [e]; exact hle
      · exact hg r (by omega)
  · obtain ⟨rfl, hg⟩ := hA
    show w_X0_holdsColumns_l2 Φ _ _ (m + 1) st _ _
    rw [w_X0_holdsColumns_l2, hT.2.1]
    exact ⟨fun _ => h1 hg, fun h => absurd (Int32.le_refl _) h⟩
def wSv (a j : Nat) : Prop := (124 ≤ a ∧ a ≤ 128) ∨ a = 131 ∨ a = 132 ∨ (a = 0 ∧ (j = 16 ∨ j = 17))
theorem wSv_128 : ∀ a j, w128 a j → wSv a j := fun a j h => by unfold w128 at h; unfold wSv; omega
theorem wSv_sq : ∀ a j, wSq a j → wSv a j := fun a j h => by unfold wSq at h; unfold wSv; omega
theorem s_solves {st : St} {T : Nat → Nat → Int64} {h w n : Nat} {I J : Nat → Nat} {Φ : St → Int32 → Prop} (hN : 201 ≤ sN st) (hn : 1 ≤ n ∧ n ≤ 3) (hh : h ≤ 27) (hw : w ≤ 3) (hT : Tb st T h w) (hP : Pl st n I J) (hI : ∀ i, i < n → I i < h) (hJ : ∀ i, i < n → J i < w) (h1 : kOK T h w n I J = true → ∀ s, Fr wSv 0 0 st s → sL s 0 16 = kTot T n I J → sL s 0 17 = kWo T n I J → (∀ k, k < n → sL s 131 k = kRw T n I J k ∧ sL s 132 k = kCw T n I J k) → Φ s 1) (h0 : kOK T h w n I J = false → ∀ s, Fr wSv 0 0 st s → Φ s 0) : w_X0_solves st (Int32.ofNat n) Φ := by
  unfold w_X0_solves
  refine s_border hN hn hh hw hT hP hI hJ (fun s2 f2 q2 => ?_)
  rintro _ rfl
  rw [succ_of]
  have F2 : Fr wSv 0 0 st s2 := Fr_mo f2 wSv_sq (Nat.le_refl _) (Nat.le_refl _)
  have hN2 : 201 ≤ sN s2 := Nat.le_trans hN f2.1
  refine s_xM hN2 hn q2 (Or.inl ⟨rfl, rfl⟩) (fun s12 f12 => ?_)
  rintro _ rfl
  have e16 : sL (putL s12 0 16 (xM T n I J (n + 1) (n + 1))) 0 16 = xM T n I J (n + 1) (n + 1) := by rw [gL_pL, if_pos ⟨rfl, rfl⟩]
  rw [e16]
  have F12 : Fr wSv 0 0 st s12 := Fr_tr (x := 0) (y := 0) F2 (Fr_mo f12 wSv_128 (Nat.le_refl _) (Nat.le_refl _))
  have F19 : Fr wSv 0 0 st (putL s12 0 16 (xM T n I J (n + 1) (n + 1))) := Fr_L F12 (Or.inl (Or.inr (Or.inr (Or.inr ⟨rfl, Or.inl rfl⟩))))
  have q12 : ∀ i j, i ≤ n → j ≤ n → sL s12 (124 + i) j = sqX T n I J i j := fun i j hi hj => by
    rw [(fr_at f12 (Or.inl (by omega)) (by unfold w128; omega)).2.1]; exact q2 i j hi hj
  have notok : (xM T n I J (n + 1) (n + 1) = 0 ∨ (∃ k, k < n ∧ ¬ (¬ kRw T n I J k < 0 ∧ 0 ≤ kCw T n I J k)) ∨ (∃ r, r < h ∧ ¬ kHr T n I J r ≤ kWo T n I J) ∨ ∃ c, c < w ∧ ¬ kWo T n I J ≤ kHc T n I J c) → kOK T h w n I J = false := fun hx => by
    cases hk : kOK T h w n I J
    · rfl
    · exfalso
      unfold kOK at hk
      simp only [Bool.and_eq_true, decide_eq_true_eq] at hk
      obtain ⟨⟨⟨k1, k2⟩, k3⟩, k4⟩ := hk
      rcases hx with hx | ⟨k, hx, hy⟩ | ⟨k, hx, hy⟩ | ⟨k, hx, hy⟩
      · exact k1 hx
      · exact hy (k2 k hx)
      · exact hy (k3 k hx)
      · exact hy (k4 k hx)
  have go : xM T n I J (n + 1) (n + 1) ≠ 0 → w_X0_solves_b47 Φ (putL s12 0 16 (xM T n I J (n + 1) (n + 1))) (Int32.ofNat n) (Int32.ofNat (n + 1)) (kSg T n I J) := fun hx0 => by
    unfold w_X0_solves_b47
    rintro _ rfl
    rw [e16]
    have F23 : Fr wSv 0 0 st (putL (putL s12 0 16 (xM T n I J (n + 1) (n + 1))) 0 16 (xM T n I J (n + 1) (n + 1) * kSg T n I J)) := Fr_L F19 (Or.inl (Or.inr (Or.inr (Or.inr ⟨rfl, Or.inl rfl⟩))))
    have g16 : sL (putL (putL s12 0 16 (xM T n I J (n + 1) (n + 1))) 0 16 (xM T n I J (n + 1) (n + 1) * kSg T n I J)) 0 16 = kTot T n I J := by rw [gL_pL, if_pos ⟨rfl, rfl⟩]; rfl
    have q23 : ∀ i j, i ≤ n → j ≤ n → sL (putL (putL s12 0 16 (xM T n I J (n + 1) (n + 1))) 0 16 (xM T n I J (n + 1) (n + 1) * kSg T n I J)) (124 + i) j = sqX T n I J i j := fun i j hi hj => by
      rw [gL_pL, if_neg (by omega), gL_pL, if_neg (by omega)]; exact q12 i j hi hj
    generalize putL (putL s12 0 16 (xM T n I J (n + 1) (n + 1))) 0 16 (xM T n I J (n + 1) (n + 1) * kSg T n I J) = s23 at F23 g16 q23
    refine loop_up (α := St × Int32) (L := fun m a => w_X0_solves_l61 Φ (fun (s50 : St) => w_X0_solves_b144 Φ s50) (fun (s51 : St) (x1 : Int32) (x2 : Int32) (x3 : Int64) => w_X0_solves_b152 Φ s51 x1 x2 x3) m a.1 (Int32.ofNat n) (Int32.ofNat (n + 1)) (kSg T n I J) a.2) n (fun i a => a.2 = Int32.ofNat i ∧ Fr wSv 0 0 st a.1 ∧ sL a.1 0 16 = kTot T n I J ∧ (∀ i j, i ≤ n → j ≤ n → sL a.1 (124 + i) j = sqX T n I J i j) ∧ ∀ k, k < i → (sL a.1 131 k = kRw T n I J k ∧ sL a.1 132 k = kCw T n I J k) ∧ (¬ kRw T n I J k < 0 ∧ 0 ≤ kCw T n I J k)) (fun m i a hi hA k9 => ?_) (fun m a hA => ?_) gFU 0 (s23, 0) (by omega) (gFU_big (by omega)) ⟨rfl, F23, g16, q23, fun k hk => absurd hk (by omega)⟩
    · obtain ⟨s, x⟩ := a
      obtain ⟨e, F, g, q, v⟩ := hA
      dsimp only at e F g q v
      subst e
      show w_X0_solves_l61 Φ _ _ (m + 1) s _ _ _ _
      have hNs : 201 ≤ sN s := Nat.le_trans hN F.1
      have ea : Int32.ofNat n + Int32.ofNat i = Int32.ofNat (n + i) := (Int32.ofNat_add n i).symm
      have g82 : ∀ z, z = (if (n + i) % 2 = 0 then kSg T n I J else -kSg T n I J) → w_X0_solves_b82 Φ (fun (s50 : St) => w_X0_solves_b144 Φ s50) (w_X0_solves_l61 Φ (fun (s50 : St) => w_X0_solves_b144 Φ s50) (fun (s51 : St) (x1 : Int32) (x2 : Int32) (x3 : Int64) => w_X0_solves_b152 Φ s51 x1 x2 x3) m) s (Int32.ofNat n) (Int32.ofNat (n + 1)) (kSg T n I J) (Int32.ofNat i) z := fun z hz => by
        unfold w_X0_solves_b82
        refine s_xM hNs hn q (Or.inr ⟨by omega, by omega⟩) (fun s28 f28 => ?_)
        rw [vp_of (by omega), nn_of (by omega)]
        refine ⟨by omega, ?_⟩
        rintro _ rfl
        have F36 : Fr wSv 0 0 st (putL s28 131 i (z * xM T n I J i n)) := Fr_L (Fr_tr (x := 0) (y := 0) F (Fr_mo f28 wSv_128 (Nat.le_refl _) (Nat.le_refl _))) (Or.inl (Or.inr (Or.inl rfl)))
        have u28 : ∀ a j, a < 201 → a ≠ 128 → Same s s28 a j := fun a j ha hb => fr_at f28 (Or.inl (by omega)) (fun h => hb h.1)
        have q36 : ∀ i' j, i' ≤ n → j ≤ n → sL (putL s28 131 i (z * xM T n I J i n)) (124 + i') j = sqX T n I J i' j := fun i' j hi' hj => by
          rw [gL_pL, if_neg (by omega), (u28 _ j (by omega) (by omega)).2.1]; exact q i' j hi' hj
        refine s_xM (Nat.le_trans hN F36.1) hn q36 (Or.inr ⟨Nat.le_refl _, by omega⟩) (fun s39 f39 => ?_)
        intro s46 hs46
        have u39 : ∀ a j, a < 201 → a ≠ 128 → Same (putL s28 131 i (z * xM T n I J i n)) s39 a j := fun a j ha hb => fr_at f39 (Or.inl (by have := F36.1; omega)) (fun h => hb h.1)
        have F46 : Fr wSv 0 0 st s46 := by
          rw [hs46]
          exact Fr_L (Fr_tr (x := 0) (y := 0) F36 (Fr_mo f39 wSv_128 (Nat.le_refl _) (Nat.le_refl _))) (Or.inl (Or.inr (Or.inr (Or.inl rfl))))
        have eR : sL s46 131 i = kRw T n I J i := by
          rw [hs46, gL_pL, if_neg (by omega), (u39 131 i (by omega) (by omega)).2.1, gL_pL, if_pos ⟨rfl, rfl⟩, hz]; rfl
        have eC : sL s46 132 i = kCw T n I J i := by rw [hs46, gL_pL, if_pos ⟨rfl, rfl⟩, hz]; rfl
        have eo : ∀ a j, a < 201 → a ≠ 128 → ¬ (a = 131 ∧ j = i) → ¬ (a = 132 ∧ j = i) → sL s46 a j = sL s a j := fun a j ha hb h1 h2 => by
          rw [hs46, gL_pL, if_neg h2, (u39 a j ha hb).2.1, gL_pL, if_neg h1, (u28 a j ha hb).2.1]
        rw [eR, eC]
        unfold w_X0_solves_b144
        refine ⟨fun hneg => h0 (notok (Or.inr (Or.inl ⟨i, hi, fun hq => hq.1 hneg⟩))) _ F46, fun hneg => ⟨fun hge => ?_, fun hge => h0 (notok (Or.inr (Or.inl ⟨i, hi, fun hq => hge hq.2⟩))) _ F46⟩⟩
        refine k9 (s46, _) ?_
        dsimp only
        refine ⟨succ_of i, F46, by rw [eo 0 16 (by omega) (by omega) (by omega) (by omega)]; exact g, fun i' j hi' hj => by rw [eo _ j (by omega) (by omega) (by omega) (by omega)]; exact q i' j hi' hj, fun k hk => ?_⟩
        by_cases e : k = i
        · rw [e]; exact ⟨⟨eR, eC⟩, hneg, hge⟩
        · obtain ⟨⟨v1, v2⟩, v3⟩ := v k (by omega)
          exact ⟨⟨by rw [eo 131 k (by omega) (by omega) (by omega) (by omega)]; exact v1, by rw [eo 132 k (by omega) (by omega) (by omega) (by omega)]; exact v2⟩, v3⟩
      rw [w_X0_solves_l61, le_of (by omega) (by omega), ea, par (n + i) (by omega)]
      refine ⟨fun h => absurd h (by omega), fun _ => ⟨fun hp => g82 _ ?_, fun hp => g82 _ ?_⟩⟩
      · rw [if_neg]
        intro h; rw [h] at hp; exact hp rfl
      · rw [if_pos]
        exact of_inj (by omega) (by omega) hp
    · obtain ⟨s, x⟩ := a
      obtain ⟨e, F, g, q, v⟩ := hA
      dsimp only at e F g q v
      subst e
      show w_X0_solves_l61 Φ _ _ (m + 1) s _ _ _ _
      rw [w_X0_solves_l61]
      refine ⟨fun _ => ?_, fun h => absurd (Int32.le_refl _) h⟩
      unfold w_X0_solves_b152
      have hNs : 201 ≤ sN s := Nat.le_trans hN F.1
      refine s_xM hNs hn q (Or.inr ⟨Nat.le_refl _, Nat.le_refl _⟩) (fun s53 f53 => ?_)
      intro s60 hs60
      have u53 : ∀ a j, a < 201 → a ≠ 128 → Same s s53 a j := fun a j ha hb => fr_at f53 (Or.inl (by omega)) (fun h => hb h.1)
      have F60 : Fr wSv 0 0 st s60 := by
        rw [hs60]
        exact Fr_L (Fr_tr (x := 0) (y := 0) F (Fr_mo f53 wSv_128 (Nat.le_refl _) (Nat.le_refl _))) (Or.inl (Or.inr (Or.inr (Or.inr ⟨rfl, Or.inr rfl⟩))))
      have eW : sL s60 0 17 = kWo T n I J := by rw [hs60, gL_pL, if_pos ⟨rfl, rfl⟩]; rfl
      have eo : ∀ a j, a < 201 → a ≠ 128 → ¬ (a = 0 ∧ j = 17) → sL s60 a j = sL s a j := fun a j ha hb h1 => by
        rw [hs60, gL_pL, if_neg h1, (u53 a j ha hb).2.1]
      have T60 : Tb s60 T h w := Tb_fr F60 hN hh (fun a j h hw => by unfold wSv at hw; omega) hT
      have P60 : Pl s60 n I J := Pl_fr F60 hN (fun a j h hw => by unfold wSv at hw; omega) hP
      have C60 : ∀ k, k < n → sL s60 132 k = kCw T n I J k := fun k hk => by rw [eo 132 k (by omega) (by omega) (by omega)]; exact (v k hk).1.2
      have R60 : ∀ k, k < n → sL s60 131 k = kRw T n I J k := fun k hk => by rw [eo 131 k (by omega) (by omega) (by omega)]; exact (v k hk).1.1
      refine s_holdsRows hn.2 hh hw T60 P60 hJ C60 eW (fun hr => ?_) (fun hr => ⟨fun _ => h0 (notok (Or.inr (Or.inr (Or.inl hr)))) _ F60, fun h => absurd rfl h⟩)
      refine ⟨fun h => absurd h (by decide), fun _ => ?_⟩
      refine s_holdsColumns hn.2 hh hw T60 P60 hI R60 eW (fun hc => ?_) (fun hc => ⟨fun _ => h0 (notok (Or.inr (Or.inr (Or.inr hc)))) _ F60, fun h => absurd rfl h⟩)
      refine ⟨fun h => absurd h (by decide), fun _ => h1 ?_ _ F60 (by rw [eo 0 16 (by omega) (by omega) (by omega)]; exact g) eW (fun k hk => ⟨R60 k hk, C60 k hk⟩)⟩
      unfold kOK
      simp only [Bool.and_eq_true, decide_eq_true_eq]
      exact ⟨⟨⟨hx0, fun k hk => (v k hk).2⟩, hr⟩, hc⟩
  refine ⟨fun hne => ⟨fun hle => ?_, fun hle => ?_⟩, fun he => h0 (notok (Or.inl he)) _ F19⟩
  · have := go hne
    have e : kSg T n I J = -1 := if_pos hle
    rw [e] at this; exact this
  · have := go hne
    have e : kSg T n I J = 1 := if_neg hle
    rw [e] at this; exact this
