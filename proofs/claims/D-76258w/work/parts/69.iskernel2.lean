/-! PLAIN LAW, 30: whether a square solves the table: the reference, on -/
set_option maxRecDepth 100000
def Asc (n : Nat) (K : Nat → Nat) : Prop := ∀ i, i + 1 < n → K i < K (i + 1)
theorem asc_lt {n : Nat} {K : Nat → Nat} (h : Asc n K) : ∀ j i, i < j → j < n → K i < K j
  | 0, i, hi, _ => absurd hi (by omega)
  | j + 1, i, hi, hj => by
    have h2 := h j (by omega)
    by_cases e : i = j
    · rw [e]; exact h2
    · have := asc_lt h j i (by omega) (by omega); omega
theorem asc_ne {n : Nat} {K : Nat → Nat} (h : Asc n K) {i j : Nat} (hi : i < n) (hj : j < n) (hne : i ≠ j) : K i ≠ K j := by
  rcases (by omega : i < j ∨ j < i) with g | g
  · have := asc_lt h j i g hj; omega
  · have := asc_lt h i j g hi; omega
theorem hg9 {n : Nat} (hn : n ≤ 3) : ∀ j, j ≤ n → (Int32.ofNat j = (-1 : Int32)) = (j = 9) := fun j hj => by
  rw [eq_ti (z := -1) (-1) rfl, ti_of (by omega)]
  apply propext; omega
theorem hgN {n g : Nat} (hn : n ≤ 3) (hg : g ≤ 3) : ∀ j, j ≤ n → (Int32.ofNat j = Int32.ofNat g) = (j = g) := fun j hj => ofE (by omega) (by omega)
theorem lt_0_64 (x : Int64) : (x < 0) = ¬ (0 ≤ x) := by rw [lt64, ge064]; apply propext; show x.toInt < 0 ↔ _; omega
theorem s_isKernel {st : St} {T : Nat → Nat → Int64} {h w n : Nat} {I J : Nat → Nat} {Φ : St → Int32 → Prop} (hN : 201 ≤ sN st) (hn : 1 ≤ n ∧ n ≤ 3) (hh : h ≤ 27) (hw : w ≤ 3) (hT : Tm st T h w) (hM : Mk st T n I J) (hI : ∀ i, i < n → I i < h) (hJ : ∀ i, i < n → J i < w) (hIa : Asc n I) (hJa : Asc n J) (hmin : (xM T n I J (n + 1) (n + 1)).toInt ≠ -9223372036854775808) (h1 : kOK T h w n I J = true → ∀ s, Fr wKm 0 0 st s → sL s 175 29 = kTot T n I J → sL s 175 30 = kWo T n I J → (∀ k, k < n → sL s 192 (J k) = kCw T n I J k ∧ sL s 191 (I k) = kRw T n I J k) → (∀ c, c < 3 → (∀ k, k < n → J k ≠ c) → sL s 192 c = 0) → (∀ r, r < 27 → (∀ k, k < n → I k ≠ r) → sL s 191 r = 0) → Φ s 1) (h0 : kOK T h w n I J = false → ∀ s, Fr wKm 0 0 st s → Φ s 0) : w_X4_isKernel st Φ := by
  have notok : (xM T n I J (n + 1) (n + 1) = 0 ∨ (∃ k, k < n ∧ ¬ (¬ kRw T n I J k < 0 ∧ 0 ≤ kCw T n I J k)) ∨ (∃ r, r < h ∧ ¬ kHr T n I J r ≤ kWo T n I J) ∨ ∃ c, c < w ∧ ¬ kWo T n I J ≤ kHc T n I J c) → kOK T h w n I J = false := fun hx => by
    cases hk : kOK T h w n I J
    · rfl
    · exfalso
      unfold kOK at hk
      simp only [Bool.and_eq_true, decide_eq_true_eq] at hk
      obtain ⟨⟨⟨k1, k2⟩, k3⟩, k4⟩ := hk
      rcases hx with hx | ⟨k, hx, hy⟩ | ⟨k, hx, hy⟩ | ⟨k, hx, hy⟩
      · exact k1 hx
      · exact hy (k2 k hx)
      · exact hy (k3 k hx)
      · exact hy (k4 k hx)
  unfold w_X4_isKernel
  refine s_det (g := 9) (t := false) hN hM hn (hg9 hn.2) (fun s2 f2 => ?_)
  rintro _ rfl
  have eX : dtK (fun i j => entM T n I J false 9 i j) (n + 1) (2 ^ (n + 1) - 1) = -xM T n I J (n + 1) (n + 1) := idW T I J hn
  rw [eX]
  have e29 : sL (putL s2 175 29 (-xM T n I J (n + 1) (n + 1))) 175 29 = -xM T n I J (n + 1) (n + 1) := by rw [gL_pL, if_pos ⟨rfl, rfl⟩]
  rw [e29]
  have F9 : Fr wKm 0 0 st (putL s2 175 29 (-xM T n I J (n + 1) (n + 1))) := Fr_L (Fr_mo f2 wKm_193 (Nat.le_refl _) (Nat.le_refl _)) (Or.inl (Or.inr (Or.inr (Or.inr ⟨rfl, Or.inl rfl⟩))))
  generalize hX : xM T n I J (n + 1) (n + 1) = X at *
  have hfit := lfit X
  have hneg : (-X).toInt = -X.toInt := by rw [tneg]; apply bm_fit; unfold fit at *; omega
  have hz : (-X = 0) = (X = 0) := by rw [eq64z, eq64z, hneg]; apply propext; omega
  have hs : X ≠ 0 → (if 0 ≤ -X then (1 : Int64) else -1) = -kSg T n I J := fun hx => by
    have hx' : X.toInt ≠ 0 := fun h => hx (by rw [eq64z]; exact h)
    unfold kSg
    rw [hX]
    by_cases g : X.toInt ≤ 0
    · have k1 : 0 ≤ -X := by rw [ge064, hneg]; omega
      have k2 : X ≤ 0 := by rw [le64]; exact g
      rw [if_pos k1, if_pos k2]; rfl
    · have k1 : ¬ 0 ≤ -X := by rw [ge064, hneg]; omega
      have k2 : ¬ X ≤ 0 := by rw [le64]; exact g
      rw [if_neg k1, if_neg k2]
  have go : X ≠ 0 → w_X4_isKernel_b37 Φ (putL s2 175 29 (-X)) (-kSg T n I J) := fun hx => by
    unfold w_X4_isKernel_b37
    rintro _ rfl
    rw [e29]
    have eT : -X * -kSg T n I J = kTot T n I J := by unfold kTot; rw [hX]; generalize kSg T n I J = s; grind
    rw [eT]
    have F13 : Fr wKm 0 0 st (putL (putL s2 175 29 (-X)) 175 29 (kTot T n I J)) := Fr_L F9 (Or.inl (Or.inr (Or.inr (Or.inr ⟨rfl, Or.inl rfl⟩))))
    have g29 : sL (putL (putL s2 175 29 (-X)) 175 29 (kTot T n I J)) 175 29 = kTot T n I J := by rw [gL_pL, if_pos ⟨rfl, rfl⟩]
    generalize putL (putL s2 175 29 (-X)) 175 29 (kTot T n I J) = s13 at F13 g29
    have M13 : Mk s13 T n I J := Mk_fr F13 hN (fun a j h hw => by unfold wKm at hw; omega) hM
    rw [M13.1]
    refine s_det (g := n) (t := false) (Nat.le_trans hN F13.1) M13 hn (hgN hn.2 hn.2) (fun s16 f16 => ?_)
    have eV : dtK (fun i j => entM T n I J false n i j) (n + 1) (2 ^ (n + 1) - 1) = xM T n I J n n := idV T I J hn
    rw [eV]
    rintro _ rfl
    have F23 : Fr wKm 0 0 st (putL s16 175 30 (-kSg T n I J * xM T n I J n n)) := Fr_L (Fr_tr (x := 0) (y := 0) F13 (Fr_mo f16 wKm_193 (Nat.le_refl _) (Nat.le_refl _))) (Or.inl (Or.inr (Or.inr (Or.inr ⟨rfl, Or.inr rfl⟩))))
    have a29 : sL (putL s16 175 30 (-kSg T n I J * xM T n I J n n)) 175 29 = kTot T n I J := by
      rw [gL_pL, if_neg (by omega), (fr_at f16 (Or.inl (by have := F13.1; omega)) (by unfold w193a; omega)).2.1]; exact g29
    have a30 : sL (putL s16 175 30 (-kSg T n I J * xM T n I J n n)) 175 30 = kWo T n I J := by rw [gL_pL, if_pos ⟨rfl, rfl⟩]; rfl
    generalize putL s16 175 30 (-kSg T n I J * xM T n I J n n) = s23 at F23 a29 a30
    refine s_l65 (fun s29 f29 v29 => ?_)
    unfold w_X4_isKernel_b84
    refine s_l86 (fun s34 f34 v34 => ?_)
    unfold w_X4_isKernel_b104
    have F34 : Fr wKm 0 0 st s34 := Fr_tr (x := 0) (y := 0) F23 (Fr_tr (x := 0) (y := 0) (Fr_mo f29 (fun a j h => Or.inr (Or.inl h)) (Nat.le_refl _) (Nat.le_refl _)) (Fr_mo f34 (fun a j h => Or.inr (Or.inr (Or.inl h))) (Nat.le_refl _) (Nat.le_refl _)))
    have hN23 : 201 ≤ sN s23 := Nat.le_trans hN F23.1
    have hN29 : 201 ≤ sN s29 := Nat.le_trans hN23 f29.1
    have b29 : sL s34 175 29 = kTot T n I J := by rw [(fr_at f34 (Or.inl (by omega)) (by omega)).2.1, (fr_at f29 (Or.inl (by omega)) (by omega)).2.1]; exact a29
    have b30 : sL s34 175 30 = kWo T n I J := by rw [(fr_at f34 (Or.inl (by omega)) (by omega)).2.1, (fr_at f29 (Or.inl (by omega)) (by omega)).2.1]; exact a30
    have b191 : ∀ r, r < 27 → sL s34 191 r = 0 := fun r hr => by rw [(fr_at f34 (Or.inl (by omega)) (by omega)).2.1]; exact v29 r hr
    refine loop_up (α := St × Int32) (L := fun m a => w_X4_isKernel_l106 Φ (fun (s63 : St) => w_X4_isKernel_b184 Φ s63) (fun (s64 : St) => w_X4_isKernel_b192 Φ s64) m a.1 (-kSg T n I J) a.2) n (fun i a => a.2 = Int32.ofNat i ∧ Fr wKm 0 0 st a.1 ∧ sL a.1 175 29 = kTot T n I J ∧ sL a.1 175 30 = kWo T n I J ∧ (∀ k, k < i → (sL a.1 192 (J k) = kCw T n I J k ∧ sL a.1 191 (I k) = kRw T n I J k) ∧ (¬ kRw T n I J k < 0 ∧ 0 ≤ kCw T n I J k)) ∧ (∀ c, c < 3 → (∀ k, k < i → J k ≠ c) → sL a.1 192 c = 0) ∧ ∀ r, r < 27 → (∀ k, k < i → I k ≠ r) → sL a.1 191 r = 0) (fun m i a hi hA k9 => ?_) (fun m a hA => ?_) gFU 0 (s34, 0) (by omega) (gFU_big (by omega)) ⟨rfl, F34, b29, b30, fun k hk => absurd hk (by omega), fun c hc _ => v34 c hc, fun r hr _ => b191 r hr⟩
    · obtain ⟨s, x⟩ := a
      obtain ⟨e, F, c29, c30, v, z2, z1⟩ := hA
      dsimp only at e F c29 c30 v z2 z1
      subst e
      show w_X4_isKernel_l106 Φ _ _ (m + 1) s _ _
      have hNs : 201 ≤ sN s := Nat.le_trans hN F.1
      have Ms : Mk s T n I J := Mk_fr F hN (fun a j h hw => by unfold wKm at hw; omega) hM
      have hIi := hI i hi
      have hJi := hJ i hi
      rw [w_X4_isKernel_l106, Ms.1, le_of (by omega) (by omega), vp_of (by omega), nn_of (by omega)]
      refine ⟨fun h => absurd h (by omega), fun _ => ⟨by omega, ?_⟩⟩
      refine s_det (g := i) (t := false) hNs Ms hn (hgN hn.2 (by omega)) (fun s38 f38 => ?_)
      have eC : dtK (fun p j => entM T n I J false i p j) (n + 1) (2 ^ (n + 1) - 1) = mD T n I J false i := rfl
      rw [eC, idC T I J hn hi, (Ms.2.1 i hi).2.2.1, vp_of (by omega), nn_of (by omega)]
      refine ⟨by omega, ?_⟩
      have eC2 : -kSg T n I J * (if (n + i) % 2 = 0 then -xM T n I J n i else xM T n I J n i) = kCw T n I J i := by
        unfold kCw
        generalize kSg T n I J = s
        generalize xM T n I J n i = x
        by_cases e : (n + i) % 2 = 0
        · rw [if_pos e, if_pos e]; grind
        · rw [if_neg e, if_neg e]
      rw [eC2]
      intro s46 hs46
      have F46 : Fr wKm 0 0 st s46 := by
        rw [hs46]
        exact Fr_L (Fr_tr (x := 0) (y := 0) F (Fr_mo f38 wKm_193 (Nat.le_refl _) (Nat.le_refl _))) (Or.inl (Or.inr (Or.inr (Or.inl ⟨rfl, by omega⟩))))
      have M46 : Mk s46 T n I J := Mk_fr F46 hN (fun a j h hw => by unfold wKm at hw; omega) hM
      have u46 : ∀ a j, a < 201 → a ≠ 193 → ¬ (a = 192 ∧ j = J i) → sL s46 a j = sL s a j := fun a j ha hb hc => by
        rw [hs46, gL_pL, if_neg hc, (fr_at f38 (Or.inl (by omega)) (fun h => hb h.1)).2.1]
      have e46 : sL s46 192 (J i) = kCw T n I J i := by rw [hs46, gL_pL, if_pos ⟨rfl, rfl⟩]
      clear hs46
      refine s_det (g := i) (t := true) (Nat.le_trans hN F46.1) M46 hn (hgN hn.2 (by omega)) (fun s49 f49 => ?_)
      have eR : dtK (fun p j => entM T n I J true i p j) (n + 1) (2 ^ (n + 1) - 1) = mD T n I J true i := rfl
      rw [eR, idR T I J hn hi, (M46.2.1 i hi).1, vp_of (by omega), nn_of (by omega)]
      refine ⟨by omega, ?_⟩
      have eR2 : -kSg T n I J * (if (n + i) % 2 = 0 then -xM T n I J i n else xM T n I J i n) = kRw T n I J i := by
        unfold kRw
        generalize kSg T n I J = s
        generalize xM T n I J i n = x
        by_cases e : (n + i) % 2 = 0
        · rw [if_pos e, if_pos e]; grind
        · rw [if_neg e, if_neg e]
      rw [eR2]
      intro s57 hs57
      have F57 : Fr wKm 0 0 st s57 := by
        rw [hs57]
        exact Fr_L (Fr_tr (x := 0) (y := 0) F46 (Fr_mo f49 wKm_193 (Nat.le_refl _) (Nat.le_refl _))) (Or.inl (Or.inr (Or.inl ⟨rfl, by omega⟩)))
      have M57 : Mk s57 T n I J := Mk_fr F57 hN (fun a j h hw => by unfold wKm at hw; omega) hM
      have u57 : ∀ a j, a < 201 → a ≠ 193 → ¬ (a = 192 ∧ j = J i) → ¬ (a = 191 ∧ j = I i) → sL s57 a j = sL s a j := fun a j ha hb hc hd => by
        rw [hs57, gL_pL, if_neg hd, (fr_at f49 (Or.inl (by have := F46.1; omega)) (fun h => hb h.1)).2.1]; exact u46 a j ha hb hc
      have e57 : sL s57 191 (I i) = kRw T n I J i := by rw [hs57, gL_pL, if_pos ⟨rfl, rfl⟩]
      have d57 : sL s57 192 (J i) = kCw T n I J i := by
        rw [hs57, gL_pL, if_neg (by omega), (fr_at f49 (Or.inl (by have := F46.1; omega)) (by unfold w193a; omega)).2.1]; exact e46
      clear hs57
      rw [(M57.2.1 i hi).1, (M57.2.1 i hi).2.2.1, vp_of (by omega), vp_of (by omega), nn_of (by omega), nn_of (by omega), d57, e57]
      unfold w_X4_isKernel_b184
      refine ⟨by omega, fun hng => h0 (notok (Or.inr (Or.inl ⟨i, hi, fun hq => ?_⟩))) _ F57, fun hng => ⟨by omega, fun hge => ?_, fun hge => h0 (notok (Or.inr (Or.inl ⟨i, hi, fun hq => ?_⟩))) _ F57⟩⟩
      · rw [lt_0_64] at hng; exact hng hq.2
      · refine k9 (s57, _) ?_
        dsimp only
        have hge2 : 0 ≤ kCw T n I J i := by rw [lt_0_64] at hng; exact Classical.not_not.mp hng
        have hng2 : ¬ kRw T n I J i < 0 := by rw [lt_0_64]; exact fun h => h hge
        refine ⟨succ_of i, F57, by rw [u57 175 29 (by omega) (by omega) (by omega) (by omega)]; exact c29, by rw [u57 175 30 (by omega) (by omega) (by omega) (by omega)]; exact c30, fun k hk => ?_, fun c hc hne => ?_, fun r hr hne => ?_⟩
        · by_cases e : k = i
          · rw [e]; exact ⟨⟨d57, e57⟩, hng2, hge2⟩
          · obtain ⟨⟨v1, v2⟩, v3⟩ := v k (by omega)
            have n1 := asc_ne hJa (i := k) (j := i) (by omega) hi e
            have n2 := asc_ne hIa (i := k) (j := i) (by omega) hi e
            exact ⟨⟨by rw [u57 192 _ (by omega) (by omega) (by omega) (by omega)]; exact v1, by rw [u57 191 _ (by omega) (by omega) (by omega) (by omega)]; exact v2⟩, v3⟩
        · have n1 := hne i (by omega)
          rw [u57 192 c (by omega) (by omega) (by omega) (by omega)]
          exact z2 c hc (fun k hk => hne k (by omega))
        · have n1 := hne i (by omega)
          rw [u57 191 r (by omega) (by omega) (by omega) (by omega)]
          exact z1 r hr (fun k hk => hne k (by omega))
      · have := hq.1
        rw [lt_0_64] at this
        exact this hge
    · obtain ⟨s, x⟩ := a
      obtain ⟨e, F, c29, c30, v, z2, z1⟩ := hA
      dsimp only at e F c29 c30 v z2 z1
      subst e
      show w_X4_isKernel_l106 Φ _ _ (m + 1) s _ _
      have Ms : Mk s T n I J := Mk_fr F hN (fun a j h hw => by unfold wKm at hw; omega) hM
      have Ts : Tm s T h w := Tm_fr F hN (fun a j h hw => by unfold wKm at hw; omega) hT
      rw [w_X4_isKernel_l106, Ms.1]
      refine ⟨fun _ => ?_, fun h => absurd (Int32.le_refl _) h⟩
      have er : ∀ r, r < h → smL (fun c => T r c * sL s 192 c) w = kHr T n I J r := fun r hr => by
        rw [sm_supp (K := J) n w hJa hJ (fun c hc hne => by rw [z2 c (by omega) hne, Int64.mul_zero])]
        exact smL_cg n (fun k hk => by rw [(v k hk).1.1, Int64.mul_comm])
      have ec : ∀ c, c < w → smL (fun r => T r c * sL s 191 r) h = kHc T n I J c := fun c hc => by
        rw [sm_supp (K := I) n h hIa hI (fun r hr hne => by rw [z1 r (by omega) hne, Int64.mul_zero])]
        exact smL_cg n (fun k hk => by rw [(v k hk).1.2, Int64.mul_comm])
      refine s_holdsM hw hh Ts c30 (fun g1 g2 => h1 ?_ s F c29 c30 (fun k hk => (v k hk).1) z2 z1) (fun hx => h0 (notok ?_) s F)
      · unfold kOK
        simp only [Bool.and_eq_true, decide_eq_true_eq]
        rw [hX]
        exact ⟨⟨⟨hx, fun k hk => (v k hk).2⟩, fun r hr => by rw [← er r hr]; exact g1 r hr⟩, fun c hc => by rw [← ec c hc]; exact g2 c hc⟩
      · rcases hx with ⟨r, hr, hy⟩ | ⟨c, hc, hy⟩
        · exact Or.inr (Or.inr (Or.inl ⟨r, hr, by rw [← er r hr]; exact hy⟩))
        · exact Or.inr (Or.inr (Or.inr ⟨c, hc, by rw [← ec c hc]; exact hy⟩))
  rw [ne_eq, hz]
  refine ⟨fun hx => ⟨fun hle => ?_, fun hle => ?_⟩, fun hx => h0 (notok (Or.inl hx)) _ F9⟩
  · have h9 := go hx
    have e := hs hx
    rw [if_pos hle] at e
    rw [← e] at h9; exact h9
  · have h9 := go hx
    have e := hs hx
    rw [if_neg hle] at e
    rw [← e] at h9; exact h9
