/-! PLAIN LAW, 39: a kernel is found, on -/
set_option maxRecDepth 100000
theorem kern_ok {T : Nat → Nat → Int64} {h w n : Nat} {I J : Nat → Nat} {q x : Nat → Rat} {N : Nat → Nat → Rat} {s : Rat} (hn : 1 ≤ n ∧ n ≤ 3) (hb : ∀ r c, r < h → c < w → bd (T r c).toInt) (hK : Kern (fun r c => (((T r c).toInt : Int) : Rat) + s) h w n I J q x N) : kOK T h w n I J = true := by
  have hK0 := hK
  obtain ⟨i1, i2, j1, j2, q0, x0, e1, e2, e3, e4, e5⟩ := hK0
  have ht : ∀ i j, i < n → j < n → bd (tQ T I J i j) := fun i j hi hj => hb _ _ (i1 i hi) (j1 j hj)
  have hA : ∀ i j, i < n → j < n → (fun r c => (((T r c).toInt : Int) : Rat) + s) (I i) (J j) = ((tQ T I J i j : Int) : Rat) + s := fun i j _ _ => rfl
  have hR : KR (fun r c => (((T r c).toInt : Int) : Rat) + s) n q x (tQ T I J) s := by
    rcases (by omega : n = 1 ∨ n = 2 ∨ n = 3) with rfl | rfl | rfl
    · exact kr_1 hK hA
    · exact kr_2 hK hA
    · exact kr_3 hK hA
  have hS : 0 < sm n q := sm_pos q0 (e1 0 (by omega))
  obtain ⟨D, D0, c1, r1, t1, w1, s1⟩ := kr_pos hR hS
  obtain ⟨z1, z2, z3, z4⟩ := zb n hn _ ht
  obtain ⟨-, k2, k3, k4, k5, k6⟩ := k_ok hn ht
  have cpos : ∀ k, k < n → 0 ≤ cwZ (tQ T I J) n k := fun k hk => by
    have h1 : (0 : Rat) ≤ ((cwZ (tQ T I J) n k : Int) : Rat) := by rw [c1 k hk]; exact Rat.mul_nonneg (by grind) (q0 k hk)
    exact_mod_cast h1
  have rpos : ∀ k, k < n → 0 ≤ rwZ (tQ T I J) n k := fun k hk => by
    have h1 : (0 : Rat) ≤ ((rwZ (tQ T I J) n k : Int) : Rat) := by rw [r1 k hk]; exact Rat.mul_nonneg (by grind) (x0 k hk)
    exact_mod_cast h1
  have hW : (kWo T n I J).toInt = woZ (tQ T I J) n := by rw [k3, ti_ofI]; apply bm_fit; unfold fit; omega
  have big : ∀ {a b : Int}, -1101159360000 ≤ a ∧ a ≤ 1101159360000 → bd b → -471736669824000000 ≤ a * b ∧ a * b ≤ 471736669824000000 := fun {a b} ha hb => by
    unfold bd at hb
    have h9 : (a * b).natAbs ≤ 1101159360000 * 428400 := by rw [Int.natAbs_mul]; exact Nat.mul_le_mul (by omega) (by omega)
    omega
  have nM : (n : Int) * 471736669824000000 ≤ 1415210009472000000 := by
    rcases (by omega : n = 1 ∨ n = 2 ∨ n = 3) with rfl | rfl | rfl <;> decide
  have hHr : ∀ r, r < h → (kHr T n I J r).toInt = smZ (fun k => cwZ (tQ T I J) n k * (T r (J k)).toInt) n := fun r hr => by
    unfold kHr
    rw [smL_ok (F := fun k => cwZ (tQ T I J) n k * (T r (J k)).toInt) (fun k => by rw [k4, Int64.ofInt_mul, ofI_ti]), ti_ofI]
    apply bm_fit
    have := smZ_b (F := fun k => cwZ (tQ T I J) n k * (T r (J k)).toInt) (M := 471736669824000000) n (fun k hk => big (z3 k hk) (hb r (J k) hr (j1 k hk)))
    unfold fit; omega
  have hHc : ∀ c, c < w → (kHc T n I J c).toInt = smZ (fun k => rwZ (tQ T I J) n k * (T (I k) c).toInt) n := fun c hc => by
    unfold kHc
    rw [smL_ok (F := fun k => rwZ (tQ T I J) n k * (T (I k) c).toInt) (fun k => by rw [k5, Int64.ofInt_mul, ofI_ti]), ti_ofI]
    apply bm_fit
    have := smZ_b (F := fun k => rwZ (tQ T I J) n k * (T (I k) c).toInt) (M := 471736669824000000) n (fun k hk => big (z4 k hk) (hb (I k) c (i1 k hk) hc))
    unfold fit; omega
  unfold kOK
  simp only [Bool.and_eq_true, decide_eq_true_eq]
  refine ⟨⟨⟨fun hx => ?_, fun k hk => ⟨?_, ?_⟩⟩, fun r hr => ?_⟩, fun c hc => ?_⟩
  · rw [eq64z, k6] at hx
    have : toZ (tQ T I J) n = 0 := by unfold toZ; rw [hx, Int.zero_mul]
    rw [this] at t1
    have h9 := Rat.mul_pos D0 hS
    rw [← t1] at h9
    exact absurd h9 (by decide)
  · rw [lt_0_64, ge064, k5, ti_ofI, bm_fit (by have := z4 k hk; unfold fit; omega)]
    exact fun h => h (rpos k hk)
  · rw [ge064, k4, ti_ofI, bm_fit (by have := z3 k hk; unfold fit; omega)]
    exact cpos k hk
  · rw [le64, hHr r hr, hW]
    have hq : ((smZ (fun k => cwZ (tQ T I J) n k * (T r (J k)).toInt) n : Int) : Rat) ≤ ((woZ (tQ T I J) n : Int) : Rat) := by
      rw [sm_cast, w1]
      have e : sm n (fun k => ((cwZ (tQ T I J) n k * (T r (J k)).toInt : Int) : Rat)) = D * sm n (fun k => q k * ((((T r (J k)).toInt : Int) : Rat) + s)) - (D * s) * sm n q := by
        rw [← sm_mul, ← sm_mul, ← sm_sub]
        refine sm_congr (fun k hk => ?_)
        push_cast
        rw [c1 k hk]; grind
      rw [e]
      have h9 := Rat.mul_le_mul_of_nonneg_left (e3 r hr) (show 0 ≤ D by grind)
      grind
    exact_mod_cast hq
  · rw [le64, hHc c hc, hW]
    have hq : ((woZ (tQ T I J) n : Int) : Rat) ≤ ((smZ (fun k => rwZ (tQ T I J) n k * (T (I k) c).toInt) n : Int) : Rat) := by
      rw [sm_cast, w1]
      have e : sm n (fun k => ((rwZ (tQ T I J) n k * (T (I k) c).toInt : Int) : Rat)) = D * sm n (fun i => ((((T (I i) c).toInt : Int) : Rat) + s) * x i) - (D * s) * sm n x := by
        rw [← sm_mul, ← sm_mul, ← sm_sub]
        refine sm_congr (fun k hk => ?_)
        push_cast
        rw [r1 k hk]; grind
      rw [e, ← s1]
      have h9 := Rat.mul_le_mul_of_nonneg_left (e4 c hc) (show 0 ≤ D by grind)
      grind
    exact_mod_cast hq
theorem sqX_cg {T : Nat → Nat → Int64} {n : Nat} {I J I' J' : Nat → Nat} (hI : ∀ i, i < n → I i = I' i) (hJ : ∀ i, i < n → J i = J' i) : sqX T n I J = sqX T n I' J' := by
  funext i j
  unfold sqX
  by_cases h1 : i < n
  · rw [if_pos h1, if_pos h1]
    by_cases h2 : j < n
    · rw [if_pos h2, if_pos h2, hI i h1, hJ j h2]
    · rw [if_neg h2, if_neg h2]
  · rw [if_neg h1, if_neg h1]
theorem kOK_cg {T : Nat → Nat → Int64} {h w n : Nat} {I J I' J' : Nat → Nat} (hI : ∀ i, i < n → I i = I' i) (hJ : ∀ i, i < n → J i = J' i) : kOK T h w n I J = kOK T h w n I' J' := by
  have hx : ∀ r c, xM T n I J r c = xM T n I' J' r c := fun r c => by unfold xM; rw [sqX_cg hI hJ]
  have hs : kSg T n I J = kSg T n I' J' := by unfold kSg; rw [hx]
  have hc : ∀ k, kCw T n I J k = kCw T n I' J' k := fun k => by unfold kCw; rw [hx, hs]
  have hr : ∀ k, kRw T n I J k = kRw T n I' J' k := fun k => by unfold kRw; rw [hx, hs]
  have hw : kWo T n I J = kWo T n I' J' := by unfold kWo; rw [hx, hs]
  have e1 : ∀ r, kHr T n I J r = kHr T n I' J' r := fun r => smL_cg n (fun k hk => by rw [hc, hJ k hk])
  have e2 : ∀ c, kHc T n I J c = kHc T n I' J' c := fun c => smL_cg n (fun k hk => by rw [hr, hI k hk])
  unfold kOK
  simp only [hx, hc, hr, hw, e1, e2]
theorem chS_mem : ∀ (l : List (List Nat)) (d c : List Nat) (e : Nat), chS (d :: l) e = true → c ∈ l → setN d < setN c
  | [], _, _, _, _, h => absurd h (by simp)
  | f :: l, d, c, e, h, hm => by
    obtain ⟨-, -, -, -, -, h1, h2⟩ := chS_c h
    have h1 : setN d < setN f := h1
    rcases List.mem_cons.mp hm with rfl | hm
    · exact h1
    · have := chS_mem l f c e h2 hm; omega
theorem fsJ_some {P : List Nat → Bool} {b : Nat} : ∀ (l : List (List Nat)) (c : List Nat) (e : Nat), chS l e = true → c ∈ l → setN c < b → P c = true → fsJ P b l ≠ none
  | [], _, _, _, hm, _, _ => absurd hm (by simp)
  | d :: l, c, e, h, hm, hb, hP => by
    obtain ⟨-, -, -, -, -, -, h2⟩ := chS_c h
    rw [fsJ]
    rcases List.mem_cons.mp hm with rfl | hm2
    · rw [if_pos hb, if_pos hP]; simp
    · have h3 := chS_mem l d c e h hm2
      rw [if_pos (by omega)]
      split
      · simp
      · exact fsJ_some l c e h2 hm2 hb hP
theorem fsI_some {Q : List Nat → Option (List Nat)} {b : Nat} : ∀ (l : List (List Nat)) (c : List Nat) (e : Nat), chS l e = true → c ∈ l → setN c < b → Q c ≠ none → fsI Q b l ≠ none
  | [], _, _, _, hm, _, _ => absurd hm (by simp)
  | d :: l, c, e, h, hm, hb, hP => by
    obtain ⟨-, -, -, -, -, -, h2⟩ := chS_c h
    rw [fsI]
    rcases List.mem_cons.mp hm with rfl | hm2
    · rw [if_pos hb]
      cases hq : Q c
      · exact absurd hq hP
      · simp
    · have h3 := chS_mem l d c e h hm2
      rw [if_pos (by omega)]
      cases hq : Q d
      · exact fsI_some l c e h2 hm2 hb hP
      · simp
/-- the places as a list -/
theorem as_list {n b : Nat} {K : Nat → Nat} (hn : 1 ≤ n ∧ n ≤ 3) (hb : b ≤ 27) (ha : ∀ i, i + 1 < n → K i < K (i + 1)) (hl : ∀ i, i < n → K i < b) : n ≤ b ∧ ∃ a, a ∈ ens n ∧ setN a < 2 ^ b ∧ ∀ i, i < n → gD a i = K i := by
  have pw : ∀ i j, i < j → 2 * 2 ^ i ≤ 2 ^ j := fun i j hij => by
    have := Nat.pow_le_pow_right (n := 2) (by omega) (show i + 1 ≤ j by omega)
    rw [Nat.pow_succ] at this; omega
  have p0 : ∀ i, 0 < 2 ^ i := fun i => Nat.two_pow_pos i
  rcases (by omega : n = 1 ∨ n = 2 ∨ n = 3) with rfl | rfl | rfl
  · have l0 := hl 0 (by omega)
    refine ⟨by omega, [K 0], ?_, ?_, fun i hi => ?_⟩
    · simp only [ens, List.mem_map, List.mem_range]; exact ⟨K 0, by omega, rfl⟩
    · show 2 ^ K 0 + 0 < 2 ^ b
      have := pw _ _ l0; have := p0 (K 0); omega
    · rw [show i = 0 by omega]; rfl
  · have l0 := hl 0 (by omega)
    have l1 := hl 1 (by omega)
    have a0 : K 0 < K 1 := ha 0 (by omega)
    refine ⟨by omega, [K 0, K 1], ?_, ?_, fun i hi => ?_⟩
    · simp only [ens, c2, List.mem_flatMap, List.mem_map, List.mem_range]; exact ⟨K 1, by omega, K 0, a0, rfl⟩
    · show 2 ^ K 0 + (2 ^ K 1 + 0) < 2 ^ b
      have := pw _ _ l1; have := pw _ _ a0; have := p0 (K 0); omega
    · rcases (by omega : i = 0 ∨ i = 1) with rfl | rfl <;> rfl
  · have l0 := hl 0 (by omega)
    have l1 := hl 1 (by omega)
    have l2 := hl 2 (by omega)
    have a0 : K 0 < K 1 := ha 0 (by omega)
    have a1 : K 1 < K 2 := ha 1 (by omega)
    refine ⟨by omega, [K 0, K 1, K 2], ?_, ?_, fun i hi => ?_⟩
    · simp only [ens, c3, List.mem_flatMap, List.mem_map, List.mem_range]; exact ⟨K 2, by omega, K 1, a1, K 0, a0, rfl⟩
    · show 2 ^ K 0 + (2 ^ K 1 + (2 ^ K 2 + 0)) < 2 ^ b
      have := pw _ _ l2; have := pw _ _ a0; have := pw _ _ a1; have := p0 (K 0); omega
    · rcases (by omega : i = 0 ∨ i = 1 ∨ i = 2) with rfl | rfl | rfl <;> rfl
theorem cast_pos (z k : Int) (h : 0 < z + k) : (0 : Rat) < ((z : Int) : Rat) + ((k : Int) : Rat) := by exact_mod_cast h
/-- a table of small numbers has its square -/
theorem found {T : Nat → Nat → Int64} {h w : Nat} (hh : 1 ≤ h ∧ h ≤ 27) (hw : 1 ≤ w ∧ w ≤ 3) (hb : ∀ r c, r < h → c < w → bd (T r c).toInt) : fsN T h w 4 1 ≠ none := by
  obtain ⟨n, I, J, q, x, N, n1, n2, hK⟩ := KE_ex (A := fun r c => (((T r c).toInt : Int) : Rat) + ((428401 : Int) : Rat)) (h := h) (w := w) (by omega) (by omega) hw.2 (fun r c hr hc => cast_pos _ _ (by have h1 := (hb r c hr hc).1; omega))
  have hok := kern_ok (by omega) hb hK
  obtain ⟨i1, i2, j1, j2, -⟩ := hK
  obtain ⟨hnh, a, am, ab, ae⟩ := as_list (by omega) hh.2 i2 i1
  obtain ⟨hnw, c, cm, cb, ce⟩ := as_list (by omega) (by omega) j2 j1
  have hok2 : kOK T h w n (gD a) (gD c) = true := by rw [kOK_cg ae ce]; exact hok
  have hE := hd_n n (by omega)
  have hQ : kQ T h w n a ≠ none := fsJ_some (ens n) c (enE n) hE.2.1 cm cb hok2
  have hI := fsI_some (Q := kQ T h w n) (b := 2 ^ h) (ens n) a (enE n) hE.2.1 am ab hQ
  have go : ∀ k m, m + k = 5 → 1 ≤ m → m ≤ n → fsN T h w k m ≠ none := fun k => by
    induction k with
    | zero => intro m h1 h2 h3; omega
    | succ k ih =>
      intro m h1 h2 h3
      rw [fsN, if_neg (by omega), if_neg (by omega)]
      cases hf : fsI (kQ T h w m) (2 ^ h) (ens m) with
      | none =>
        by_cases e : m = n
        · subst e; exact absurd hf hI
        · exact ih (m + 1) (by omega) (by omega) (by omega)
      | some p => obtain ⟨p1, p2⟩ := p; simp
  exact go 4 1 rfl (by omega) (by omega)
theorem hBd_ok {T : Nat → Nat → Int64} {h w : Nat} (hb : ∀ r c, r < h → c < w → bd (T r c).toInt) : hBd T h w := fun n I J h1 h3 hI hJ => by
  have ht : ∀ i j, i < n → j < n → bd (tQ T I J i j) := fun i j hi hj => hb _ _ (hI i hi) (hJ j hj)
  rw [(k_ok (by omega) ht).2.2.2.2.2]
  have := (xb n (by omega) _ ht).1
  omega
