/-! PLAIN LAW, 65: the tree -/
set_option maxRecDepth 100000
/-- depths, as the reference holds them -/
def dpT (st : St) (j : Nat) : Nat := (sI st 177 (38 + 3 * j)).toNatClampNeg
theorem dp_of {st : St} {j d : Nat} (h : sI st 177 (38 + 3 * j) = Int32.ofNat d) (hd : d < 100) : dpT st j = d := by
  unfold dpT; rw [h, nn_of (by omega)]
/-- what follows a part of the tree is no deeper -/
def Out (st : St) (tot e d : Nat) : Prop := e = tot ∨ (e < tot ∧ ∃ c, c ≤ d ∧ sI st 177 (38 + 3 * e) = Int32.ofNat c)
theorem seg_ex {f : Nat → Nat} {j : Nat} : ∀ m, f 0 ≤ j → j < f m → ∃ k, k < m ∧ f k ≤ j ∧ j < f (k + 1)
  | 0, h1, h2 => absurd h2 (by omega)
  | m + 1, h1, h2 => by
    by_cases e : j < f m
    · obtain ⟨k, g1, g2, g3⟩ := seg_ex m h1 e
      exact ⟨k, by omega, g2, g3⟩
    · exact ⟨m, by omega, by omega, h2⟩
theorem seg_le {f : Nat → Nat} : ∀ m, (∀ k, k < m → f k < f (k + 1)) → ∀ k, k ≤ m → f 0 ≤ f k ∧ f k ≤ f m
  | 0, _, k, hk => by rw [show k = 0 by omega]; exact ⟨Nat.le_refl _, Nat.le_refl _⟩
  | m + 1, h, k, hk => by
    have h9 := h m (by omega)
    by_cases e : k = m + 1
    · subst e
      have := (seg_le m (fun k hk => h k (by omega)) m (Nat.le_refl _)).1
      exact ⟨by omega, Nat.le_refl _⟩
    · have := seg_le m (fun k hk => h k (by omega)) k (by omega)
      exact ⟨this.1, by omega⟩
/-- a node's parts -/
theorem tn_out {K G : Nat} {st : St} {tot n i d len : Nat} {u m : Nat} {f : Nat → Nat} (h0 : f 0 = i + 1) (hm : f m = i + len) (hf : ∀ k, k < m → f k < f (k + 1) ∧ ∃ w, sR st u k = some w ∧ Tn K G 177 st n w (f k) (d + 1) (f (k + 1) - f k)) (hO : Out st tot (i + len) d) {k : Nat} (hk : k < m) : Out st tot (f k + (f (k + 1) - f k)) (d + 1) := by
  obtain ⟨h1, -⟩ := hf k hk
  rw [show f k + (f (k + 1) - f k) = f (k + 1) by omega]
  by_cases e : k + 1 = m
  · rw [e, hm]
    rcases hO with h | ⟨h, c, h2, h3⟩
    · exact Or.inl h
    · exact Or.inr ⟨h, c, by omega, h3⟩
  · obtain ⟨g1, w, -, g2⟩ := hf (k + 1) (by omega)
    have hle := (seg_le m (fun k hk => (hf k hk).1) (k + 1 + 1) (by omega)).2
    have hc : sI st 177 (38 + 3 * f (k + 1)) = Int32.ofNat (d + 1) := by
      cases n with
      | zero => exact absurd g2 (fun h => h)
      | succ n => exact g2.2.2.2.2.2.2.2.2.1
    right
    refine ⟨?_, d + 1, Nat.le_refl _, hc⟩
    rcases hO with h | ⟨h, -⟩ <;> omega
/-- the node at a place -/
theorem tn_at {K G : Nat} {st : St} {tot : Nat} : ∀ n v i d len, Tn K G 177 st n v i d len → d + n ≤ 6 → Out st tot (i + len) d → ∀ j, i ≤ j → j < i + len → ∃ n' v' d' len', d' + (n' + 1) ≤ 6 ∧ d ≤ d' ∧ (i < j → d < d') ∧ Tn K G 177 st (n' + 1) v' j d' len' ∧ j + len' ≤ i + len ∧ Out st tot (j + len') d'
  | 0, _, _, _, _, h, _, _, _, _, _ => h.elim
  | n + 1, v, i, d, len, h, hd, hO, j, h1, h2 => by
    by_cases e : j = i
    · subst e
      exact ⟨n, v, d, len, hd, Nat.le_refl _, fun h => absurd h (by omega), h, Nat.le_refl _, hO⟩
    · obtain ⟨-, -, -, -, -, -, -, -, -, u, -, -, -, -, -, -, m, hmK, -, f, f0, fm, hf⟩ := h
      obtain ⟨k, k1, k2, k3⟩ := seg_ex (f := f) (j := j) m (by omega) (by omega)
      obtain ⟨g1, w, -, g2⟩ := hf k k1
      have hle := (seg_le m (fun k hk => (hf k hk).1) (k + 1) (by omega)).2
      obtain ⟨n', v', d', len', a1, a2, a3, a4, a5, a6⟩ := tn_at n w (f k) (d + 1) (f (k + 1) - f k) g2 (by omega) (tn_out f0 fm hf hO k1) j k2 (by omega)
      exact ⟨n', v', d', len', a1, by omega, fun _ => by omega, a4, by omega, a6⟩
/-- the tree of a house -/
def Tt (st : St) (K G tot v : Nat) : Prop := Tn K G 177 st 6 v 0 0 tot ∧ 1 ≤ tot ∧ tot ≤ 20 ∧ sI st 177 35 = Int32.ofNat tot ∧ sR st 2 7 = some v
theorem tt_at {st : St} {K G tot v j : Nat} (h : Tt st K G tot v) (hj : j < tot) : ∃ n' v' d' len', d' + (n' + 1) ≤ 6 ∧ (0 < j → 0 < d') ∧ Tn K G 177 st (n' + 1) v' j d' len' ∧ j + len' ≤ tot ∧ Out st tot (j + len') d' := by
  obtain ⟨n', v', d', len', a1, a2, a3, a4, a5, a6⟩ := tn_at (tot := tot) 6 v 0 0 tot h.1 (by omega) (Or.inl (by omega)) j (by omega) (by omega)
  exact ⟨n', v', d', len', a1, a3, a4, by omega, a6⟩
theorem tt_d {st : St} {K G tot v j : Nat} (h : Tt st K G tot v) (hj : j < tot) : sI st 177 (38 + 3 * j) = Int32.ofNat (dpT st j) ∧ dpT st j < 6 := by
  obtain ⟨n', v', d', len', a1, a3, a4, a5, a6⟩ := tt_at h hj
  have e := a4.2.2.2.2.2.2.2.2.1
  rw [dp_of e (by omega)]
  exact ⟨e, by omega⟩
/-- a place stands straight under another -/
def unB (st : St) (i j : Nat) : Bool := decide (i < j ∧ dpT st j = dpT st i + 1 ∧ ∀ x, x < j → i < x → dpT st i < dpT st x)
theorem m_depth {st : St} {j : Nat} {Φ : Int32 → Prop} (hj : j < 20) (h : Φ (sI st 177 (38 + 3 * j))) : w_X4_depthOf st (Int32.ofNat j) Φ := by
  unfold w_X4_depthOf
  have e : 36 + 3 * Int32.ofNat j + 2 = Int32.ofNat (38 + 3 * j) := by
    rw [show 38 + 3 * j = 36 + 3 * j + 2 by omega]
    simp only [Int32.ofNat_add, Int32.ofNat_mul]; rfl
  rw [e, vp_of (by omega), nn_of (by omega)]
  exact ⟨by omega, h⟩
theorem m_isUnder {st : St} {K G tot v i j : Nat} {Φ : Int32 → Prop} (hT : Tt st K G tot v) (hi : i < tot) (hj : j < tot) (h : Φ (ib (unB st i j))) : w_X4_isUnder st (Int32.ofNat i) (Int32.ofNat j) Φ := by
  have h20 := hT.2.2.1
  have h35 := hT.2.2.2.1
  obtain ⟨di, bi⟩ := tt_d hT hi
  obtain ⟨dj, bj⟩ := tt_d hT hj
  unfold w_X4_isUnder
  rw [le_of (by omega) (by omega), h35, le_of (by omega) (by omega)]
  refine ⟨fun hle => ?_, fun hle => ⟨fun h => absurd h (by omega), fun _ => ?_⟩⟩
  · have : unB st i j = false := decide_eq_false (fun g => by omega)
    rw [this] at h; exact h
  refine m_depth (by omega) (m_depth (by omega) ?_)
  rw [di, dj, succ_of, ofE (by omega) (by omega)]
  refine ⟨fun hd => ?_, fun hd => ?_⟩
  · rintro _ rfl
    rw [succ_of]
    refine loop_up (α := Int32) (L := fun m x => w_X4_isUnder_l37 Φ (fun (_ : St) => w_X4_isUnder_b55 Φ st) (fun (_ : St) => w_X4_isUnder_b63 Φ st) m st (Int32.ofNat i) (Int32.ofNat j) x) j (fun t x => x = Int32.ofNat t ∧ i < t ∧ ∀ x, x < t → i < x → dpT st i < dpT st x) (fun m t x ht hA k9 => ?_) (fun m x hA => ?_) gFU (i + 1) (Int32.ofNat (i + 1)) (by omega) (gFU_big (by omega)) ⟨rfl, by omega, fun x h1 h2 => absurd h1 (by omega)⟩
    · obtain ⟨e, hit, hA⟩ := hA
      subst e
      obtain ⟨dt, bt⟩ := tt_d hT (show t < tot by omega)
      rw [w_X4_isUnder_l37, le_of (by omega) (by omega)]
      refine ⟨fun h => absurd h (by omega), fun _ => m_depth (by omega) (m_depth (by omega) ?_)⟩
      rw [di, dt, lt_of (by omega) (by omega)]
      refine ⟨fun hlt => k9 _ ⟨succ_of t, by omega, fun x h1 h2 => ?_⟩, fun hlt => ?_⟩
      · by_cases e : x = t
        · rw [e]; exact hlt
        · exact hA x (by omega) h2
      · have : unB st i j = false := decide_eq_false (fun g => hlt (g.2.2 t ht hit))
        rw [this] at h
        unfold w_X4_isUnder_b55
        exact h
    · obtain ⟨e, hit, hA⟩ := hA
      subst e
      rw [w_X4_isUnder_l37]
      refine ⟨fun _ => ?_, fun h => absurd (Int32.le_refl _) h⟩
      have : unB st i j = true := decide_eq_true ⟨hit, hd, hA⟩
      rw [this] at h
      unfold w_X4_isUnder_b63
      exact h
  · have : unB st i j = false := decide_eq_false (fun g => hd g.2.1)
    rw [this] at h; exact h
/-- the places straight under a node are its parts' beginnings -/
theorem un_iff {st : St} {K G tot v0 n i d len u m : Nat} {f : Nat → Nat} (hT : Tt st K G tot v0) (hd : d + (n + 1) ≤ 6) (di : sI st 177 (38 + 3 * i) = Int32.ofNat d) (hlen : 1 ≤ len) (h0 : f 0 = i + 1) (hm : f m = i + len) (hf : ∀ k, k < m → f k < f (k + 1) ∧ ∃ w, sR st u k = some w ∧ Tn K G 177 st n w (f k) (d + 1) (f (k + 1) - f k)) (hO : Out st tot (i + len) d) {j : Nat} (hj : j < tot) : unB st i j = true ↔ ∃ k, k < m ∧ j = f k := by
  have ed := dp_of di (by omega)
  -- inside a part all is deeper
  have inn : ∀ x, i < x → x < i + len → ∃ k, k < m ∧ f k ≤ x ∧ x < f (k + 1) ∧ d < dpT st x ∧ (f k < x → d + 1 < dpT st x) ∧ (f k = x → dpT st x = d + 1) := fun x x1 x2 => by
    obtain ⟨k, k1, k2, k3⟩ := seg_ex (f := f) (j := x) m (by omega) (by omega)
    obtain ⟨g1, w, -, g2⟩ := hf k k1
    obtain ⟨n', v', d', len', a1, a2, a3, a4, a5, a6⟩ := tn_at (tot := tot) n w (f k) (d + 1) (f (k + 1) - f k) g2 (by omega) (tn_out h0 hm hf hO k1) x k2 (by omega)
    have ex := dp_of a4.2.2.2.2.2.2.2.2.1 (by omega)
    refine ⟨k, k1, k2, k3, by omega, fun h => by have := a3 h; omega, fun h => ?_⟩
    subst h
    cases n with
    | zero => exact g2.elim
    | succ n => exact dp_of g2.2.2.2.2.2.2.2.2.1 (by omega)
  unfold unB
  rw [decide_eq_true_iff, ed]
  refine ⟨fun ⟨g1, g2, g3⟩ => ?_, fun ⟨k, k1, k2⟩ => ?_⟩
  · have hin : j < i + len := by
      rcases Nat.lt_or_ge j (i + len) with h | h
      · exact h
      · exfalso
        rcases hO with h9 | ⟨h9, c, c1, c2⟩
        · omega
        · have ec := dp_of c2 (by omega)
          by_cases e : j = i + len
          · rw [e] at g2; omega
          · have := g3 (i + len) (by omega) (by omega); omega
    obtain ⟨k, k1, k2, k3, k4, k5, k6⟩ := inn j g1 hin
    refine ⟨k, k1, ?_⟩
    rcases Nat.lt_or_ge (f k) j with h | h
    · have := k5 h; omega
    · omega
  · have hle := seg_le m (fun k hk => (hf k hk).1) k (by omega)
    have hlt := (hf k k1).1
    have hle2 := seg_le m (fun k hk => (hf k hk).1) (k + 1) (by omega)
    obtain ⟨k', q1, q2, q3, q4, q5, q6⟩ := inn j (by omega) (by omega)
    refine ⟨by omega, ?_, fun x x1 x2 => ?_⟩
    · have : ¬ f k' < j := fun h => by
        -- j is the beginning of part k
        rcases Nat.lt_trichotomy k k' with h1 | h1 | h1
        · have : f (k + 1) ≤ f k' := by
            have := seg_le (f := fun x => f (k + 1 + x)) (k' - (k + 1)) (fun y hy => (hf (k + 1 + y) (by omega)).1) (k' - (k + 1)) (Nat.le_refl _)
            have h9 := this.1
            rw [Nat.add_zero, show k + 1 + (k' - (k + 1)) = k' by omega] at h9
            exact h9
          omega
        · subst h1; omega
        · have : f (k' + 1) ≤ f k := by
            have := seg_le (f := fun x => f (k' + 1 + x)) (k - (k' + 1)) (fun y hy => (hf (k' + 1 + y) (by omega)).1) (k - (k' + 1)) (Nat.le_refl _)
            have h9 := this.1
            rw [Nat.add_zero, show k' + 1 + (k - (k' + 1)) = k by omega] at h9
            exact h9
          omega
      exact q6 (by omega)
    · obtain ⟨_, _, _, _, q, _, _⟩ := inn x x2 (by omega)
      exact q
/-- no place under it -/
def lfB (st : St) (tot j : Nat) : Bool := decide (j + 1 = tot ∨ dpT st (j + 1) ≤ dpT st j)
theorem lf_m {st : St} {K G tot v0 n v i d len : Nat} (hT : Tt st K G tot v0) (hd : d + (n + 1) ≤ 6) (h : Tn K G 177 st (n + 1) v i d len) (hO : Out st tot (i + len) d) : ∃ m, m ≤ K ∧ sI st v 3 = Int32.ofNat m ∧ (m = 0 ↔ lfB st tot i = true) ∧ ((∀ j, j < tot → unB st i j = false) ↔ m = 0) := by
  obtain ⟨-, -, -, -, h20, hlen, -, -, di, u, -, -, -, -, -, -, m, hmK, hm3, f, f0, fm, hf⟩ := h
  have ed := dp_of di (by omega)
  have hit : i + len ≤ tot := by rcases hO with h | ⟨h, -⟩ <;> omega
  have h1 : m = 0 → len = 1 := fun e => by rw [e] at fm; omega
  have h2 : 0 < m → i + 1 < tot ∧ dpT st (i + 1) = d + 1 ∧ unB st i (i + 1) = true := fun e => by
    obtain ⟨g1, w, -, g2⟩ := hf 0 e
    have hle := (seg_le m (fun k hk => (hf k hk).1) 1 (by omega)).2
    have g1' : f 0 < f 1 := g1
    have hlt : i + 1 < tot := by omega
    refine ⟨hlt, ?_, (un_iff hT hd di hlen f0 fm hf hO hlt).mpr ⟨0, e, f0.symm⟩⟩
    cases n with
    | zero => exact g2.elim
    | succ n => rw [f0] at g2; exact dp_of g2.2.2.2.2.2.2.2.2.1 (by omega)
  refine ⟨m, hmK, hm3, ⟨fun e => ?_, fun e => ?_⟩, ⟨fun e => ?_, fun e j hj => ?_⟩⟩
  · unfold lfB
    rw [decide_eq_true_iff, ed]
    have := h1 e
    subst this
    rcases hO with h | ⟨h, c, c1, c2⟩
    · exact Or.inl h
    · exact Or.inr (by rw [dp_of c2 (by omega)]; exact c1)
  · unfold lfB at e
    rw [decide_eq_true_iff, ed] at e
    rcases Nat.eq_zero_or_pos m with h | h
    · exact h
    · obtain ⟨a1, a2, -⟩ := h2 h
      omega
  · rcases Nat.eq_zero_or_pos m with h | h
    · exact h
    · obtain ⟨a1, -, a3⟩ := h2 h
      rw [e _ a1] at a3; cases a3
  · cases hc : unB st i j with
    | false => rfl
    | true =>
      obtain ⟨k, k1, -⟩ := (un_iff hT hd di hlen f0 fm hf hO hj).mp hc
      omega
/-- how many stand straight under a place -/
def unN (st : St) (i : Nat) : Nat → Nat
  | 0 => 0
  | j + 1 => unN st i j + (if unB st i j = true then 1 else 0)
theorem un_z {st : St} {i : Nat} : ∀ j, unN st i j = 0 ↔ ∀ x, x < j → unB st i x = false
  | 0 => ⟨fun _ x hx => absurd hx (by omega), fun _ => rfl⟩
  | j + 1 => by
    rw [unN]
    have ih := un_z (st := st) (i := i) j
    constructor
    · intro h x hx
      by_cases e : x = j
      · subst e
        cases hc : unB st i x with
        | false => rfl
        | true => rw [hc, if_pos rfl] at h; omega
      · exact ih.mp (by omega) x (by omega)
    · intro h
      rw [ih.mpr (fun x hx => h x (by omega)), h j (by omega), if_neg (by decide)]
theorem un_low {st : St} {i : Nat} : ∀ j, j ≤ i + 1 → unN st i j = 0
  | j, hj => (un_z j).mpr (fun x hx => decide_eq_false (fun g => by omega))
theorem un_le {st : St} {i : Nat} : ∀ j, unN st i j ≤ j
  | 0 => Nat.le_refl _
  | j + 1 => by have := un_le (st := st) (i := i) j; rw [unN]; split <;> omega
theorem m_underMany {st : St} {K G tot v i : Nat} {Φ : Int32 → Prop} (hT : Tt st K G tot v) (hi : i < tot) (h : Φ (Int32.ofNat (unN st i tot))) : w_X4_underMany st (Int32.ofNat i) Φ := by
  have h20 := hT.2.2.1
  unfold w_X4_underMany
  rintro _ rfl
  rw [succ_of]
  refine loop_up (α := Int32 × Int32) (L := fun m a => w_X4_underMany_l6 Φ (fun (_ : St) (x2 : Int32) => w_X4_underMany_b40 Φ st x2) m st (Int32.ofNat i) a.1 a.2) tot (fun j a => a.2 = Int32.ofNat j ∧ a.1 = Int32.ofNat (unN st i j)) (fun m j a hj hA k9 => ?_) (fun m a hA => ?_) gFU (i + 1) (0, Int32.ofNat (i + 1)) (by omega) (gFU_big (by omega)) ⟨rfl, by rw [un_low (i + 1) (Nat.le_refl _)]; rfl⟩
  · obtain ⟨x, y⟩ := a
    obtain ⟨e, hA⟩ := hA
    dsimp only at e hA
    subst e
    subst hA
    show w_X4_underMany_l6 Φ _ (m + 1) st _ _ _
    rw [w_X4_underMany_l6, hT.2.2.2.1, le_of (by omega) (by omega)]
    refine ⟨fun h => absurd h (by omega), fun _ => m_isUnder hT hi hj ?_⟩
    rw [ib_z]
    unfold w_X4_underMany_b32
    refine ⟨fun hc => ?_, fun hc => ?_⟩
    · intro v13 e13
      have hk := k9 (v13, Int32.ofNat j + 1)
      dsimp only at hk
      refine hk ⟨succ_of j, ?_⟩
      rw [e13, unN, hc, if_neg (by decide)]; exact Int32.add_zero _
    · intro v13 e13
      have hk := k9 (v13, Int32.ofNat j + 1)
      dsimp only at hk
      refine hk ⟨succ_of j, ?_⟩
      have hc' : unB st i j = true := by
        cases h : unB st i j with
        | true => rfl
        | false => exact absurd h hc
      rw [e13, unN, hc', if_pos rfl]; exact succ_of _
  · obtain ⟨x, y⟩ := a
    obtain ⟨e, hA⟩ := hA
    dsimp only at e hA
    subst e
    subst hA
    show w_X4_underMany_l6 Φ _ (m + 1) st _ _ _
    rw [w_X4_underMany_l6, hT.2.2.2.1]
    refine ⟨fun _ => ?_, fun h => absurd (Int32.le_refl _) h⟩
    unfold w_X4_underMany_b40
    exact h
/-- leaves ahead of a place -/
def lfN (st : St) (tot : Nat) : Nat → Nat
  | 0 => 0
  | j + 1 => lfN st tot j + (if lfB st tot j = true then 1 else 0)
theorem lf_le {st : St} {tot : Nat} : ∀ j, lfN st tot j ≤ j
  | 0 => Nat.le_refl _
  | j + 1 => by have := lf_le (st := st) (tot := tot) j; rw [lfN]; split <;> omega
theorem lf_mo {st : St} {tot : Nat} : ∀ d j, lfN st tot j ≤ lfN st tot (j + d)
  | 0, _ => Nat.le_refl _
  | d + 1, j => by
    have := lf_mo (st := st) (tot := tot) d j
    rw [show j + (d + 1) = (j + d) + 1 by omega, lfN]; omega
/-- the deepest of a part -/
def mxD (st : St) (a : Nat) : Nat → Nat
  | 0 => 0
  | l + 1 => max (mxD st a l) (dpT st (a + l) + 1)
theorem mx_add {st : St} {a l : Nat} : ∀ k, mxD st a (l + k) = max (mxD st a l) (mxD st (a + l) k)
  | 0 => by rw [Nat.add_zero]; show _ = max _ 0; omega
  | k + 1 => by
    rw [show l + (k + 1) = (l + k) + 1 by omega, mxD, mx_add k, mxD, show a + l + k = a + (l + k) by omega]; omega
/-! the component counts -/
theorem x_nodes {st : St} {K G : Nat} (hK : K ≤ 3) : ∀ (n fu v i d len : Nat) (Φ : Int32 → Prop), n ≤ fu → Tn K G 177 st n v i d len → Φ (Int32.ofNat len) → w_X7_nodes_f fu st v Φ
  | 0, _, _, _, _, _, _, _, h, _ => h.elim
  | n + 1, 0, _, _, _, _, _, h, _, _ => absurd h (by omega)
  | n + 1, fu + 1, v, i, d, len, Φ, hfu, h, hΦ => by
    obtain ⟨-, -, -, -, h20, hlen, -, -, -, u, u1, -, -, u2, u3, u4, m, hmK, hm3, f, f0, fm, hf⟩ := h
    show w_X7_nodes (w_X7_nodes_f fu) st v Φ
    unfold w_X7_nodes
    refine loop_up (α := Int32 × Int32) (L := fun q a => w_X7_nodes_l4 (w_X7_nodes_f fu) Φ (fun (_ : St) (x1 : Int32) => w_X7_nodes_b30 (w_X7_nodes_f fu) Φ st x1) q st v a.1 a.2) m (fun k a => a.2 = Int32.ofNat k ∧ a.1 = Int32.ofNat (f k - i)) (fun q k a hk hA k9 => ?_) (fun q a hA => ?_) gFU 0 (1, 0) (by omega) (gFU_big (by omega)) ⟨rfl, by rw [f0, show i + 1 - i = 1 by omega]; rfl⟩
    · obtain ⟨x, y⟩ := a
      obtain ⟨e, hA⟩ := hA
      dsimp only at e hA
      subst e
      subst hA
      show w_X7_nodes_l4 _ Φ _ (q + 1) st _ _ _
      obtain ⟨g1, w, g2, g3⟩ := hf k hk
      have hle := seg_le m (fun k hk => (hf k hk).1) k (by omega)
      have hle2 := seg_le m (fun k hk => (hf k hk).1) (k + 1) (by omega)
      have hw : w < gBIG ∧ sh st w = 8 := by
        cases n with
        | zero => exact g3.elim
        | succ n => exact ⟨g3.2.2.1, g3.2.2.2.1⟩
      rw [w_X7_nodes_l4, hm3, le_of (by omega) (by omega)]
      refine ⟨fun h => absurd h (by omega), fun _ => ⟨u, u1, u2, u3, ?_, w, ?_, hw.1, hw.2, ?_⟩⟩
      · rw [vp_of (by omega), u4]; omega
      · rw [nn_of (by omega)]; exact g2
      · refine x_nodes hK n fu w (f k) (d + 1) (f (k + 1) - f k) _ (by omega) g3 ?_
        intro v19 e19
        have hk := k9 (v19, Int32.ofNat k + 1)
        dsimp only at hk
        refine hk ⟨succ_of k, ?_⟩
        rw [e19, ← Int32.ofNat_add]; congr 1; omega
    · obtain ⟨x, y⟩ := a
      obtain ⟨e, hA⟩ := hA
      dsimp only at e hA
      subst e
      subst hA
      show w_X7_nodes_l4 _ Φ _ (q + 1) st _ _ _
      rw [w_X7_nodes_l4, hm3]
      refine ⟨fun _ => ?_, fun h => absurd (Int32.le_refl _) h⟩
      unfold w_X7_nodes_b30
      rw [fm, show i + len - i = len by omega]; exact hΦ
theorem x_leaves {st : St} {K G tot v0 : Nat} (hK : K ≤ 3) (hT : Tt st K G tot v0) : ∀ (n fu v i d len : Nat) (Φ : Int32 → Prop), n ≤ fu → d + n ≤ 6 → Tn K G 177 st n v i d len → Out st tot (i + len) d → Φ (Int32.ofNat (lfN st tot (i + len) - lfN st tot i)) → w_X7_leaves_f fu st v Φ
  | 0, _, _, _, _, _, _, _, _, h, _, _ => h.elim
  | n + 1, 0, _, _, _, _, _, h, _, _, _, _ => absurd h (by omega)
  | n + 1, fu + 1, v, i, d, len, Φ, hfu, hd, h, hO, hΦ => by
    obtain ⟨m', hmK', hm3', hlf, -⟩ := lf_m hT hd h hO
    obtain ⟨-, -, -, -, h20, hlen, -, -, -, u, u1, -, -, u2, u3, u4, m, hmK, hm3, f, f0, fm, hf⟩ := h
    have hit : i + len ≤ tot := by rcases hO with h | ⟨h, -⟩ <;> omega
    have emm : m' = m := by
      rw [hm3] at hm3'
      by_cases hb : m' < 2 ^ 31
      · exact (of_inj (by omega) hb hm3').symm
      · exact absurd hb (by omega)
    subst emm
    have h9 := hT.2.2.1
    have hb : w_X7_leaves_b12 (w_X7_leaves_f fu) Φ st v (Int32.ofNat (lfN st tot (i + 1) - lfN st tot i)) := by
      unfold w_X7_leaves_b12
      refine loop_up (α := Int32 × Int32) (L := fun q a => w_X7_leaves_l15 (w_X7_leaves_f fu) Φ (fun (_ : St) (x1 : Int32) => w_X7_leaves_b41 (w_X7_leaves_f fu) Φ st x1) q st v a.1 a.2) m' (fun k a => a.2 = Int32.ofNat k ∧ a.1 = Int32.ofNat (lfN st tot (f k) - lfN st tot i)) (fun q k a hk hA k9 => ?_) (fun q a hA => ?_) gFU 0 (Int32.ofNat (lfN st tot (i + 1) - lfN st tot i), 0) (by omega) (gFU_big (by omega)) ⟨rfl, by rw [f0]⟩
      · obtain ⟨x, y⟩ := a
        obtain ⟨e, hA⟩ := hA
        dsimp only at e hA
        subst e
        subst hA
        show w_X7_leaves_l15 _ Φ _ (q + 1) st _ _ _
        obtain ⟨g1, w, g2, g3⟩ := hf k hk
        have hle := seg_le m' (fun k hk => (hf k hk).1) k (by omega)
        have hle2 := seg_le m' (fun k hk => (hf k hk).1) (k + 1) (by omega)
        have hw : w < gBIG ∧ sh st w = 8 := by
          cases n with
          | zero => exact g3.elim
          | succ n => exact ⟨g3.2.2.1, g3.2.2.2.1⟩
        rw [w_X7_leaves_l15, hm3, le_of (by omega) (by omega)]
        refine ⟨fun h => absurd h (by omega), fun _ => ⟨u, u1, u2, u3, ?_, w, ?_, hw.1, hw.2, ?_⟩⟩
        · rw [vp_of (by omega), u4]; omega
        · rw [nn_of (by omega)]; exact g2
        · refine x_leaves hK hT n fu w (f k) (d + 1) (f (k + 1) - f k) _ (by omega) (by omega) g3 (tn_out f0 fm hf hO hk) ?_
          intro v20 e20
          have hk9 := k9 (v20, Int32.ofNat k + 1)
          dsimp only at hk9
          refine hk9 ⟨succ_of k, ?_⟩
          have m1 := lf_mo (st := st) (tot := tot) (f k - i) i
          have m2 := lf_mo (st := st) (tot := tot) (f (k + 1) - f k) (f k)
          rw [show i + (f k - i) = f k by omega] at m1
          rw [show f k + (f (k + 1) - f k) = f (k + 1) by omega] at m2
          rw [e20, ← Int32.ofNat_add, show f k + (f (k + 1) - f k) = f (k + 1) by omega]; congr 1; omega
      · obtain ⟨x, y⟩ := a
        obtain ⟨e, hA⟩ := hA
        dsimp only at e hA
        subst e
        subst hA
        show w_X7_leaves_l15 _ Φ _ (q + 1) st _ _ _
        rw [w_X7_leaves_l15, hm3]
        refine ⟨fun _ => ?_, fun h => absurd (Int32.le_refl _) h⟩
        unfold w_X7_leaves_b41
        rw [fm]; exact hΦ
    have e1 : lfN st tot (i + 1) - lfN st tot i = if lfB st tot i = true then 1 else 0 := by rw [lfN]; omega
    show w_X7_leaves (w_X7_leaves_f fu) st v Φ
    unfold w_X7_leaves
    rw [hm3, ne_eq, zN (by omega)]
    refine ⟨fun hne => ?_, fun he => ?_⟩
    · rw [e1, if_neg (fun h => hne (hlf.mpr h))] at hb; exact hb
    · rw [e1, if_pos (hlf.mp he)] at hb; exact hb
theorem x_depth {st : St} {K G : Nat} (hK : K ≤ 3) : ∀ (n fu v i d len r : Nat) (Φ : Int32 → Prop), n ≤ fu → d + n ≤ 6 → Tn K G 177 st n v i d len → r + d = mxD st i len → r ≤ 10 → Φ (Int32.ofNat r) → w_X7_depth_f fu st v Φ
  | 0, _, _, _, _, _, _, _, _, _, h, _, _, _ => h.elim
  | n + 1, 0, _, _, _, _, _, _, h, _, _, _, _, _ => absurd h (by omega)
  | n + 1, fu + 1, v, i, d, len, r, Φ, hfu, hd, h, hr, hr10, hΦ => by
    obtain ⟨-, -, -, -, h20, hlen, -, -, di, u, u1, -, -, u2, u3, u4, m, hmK, hm3, f, f0, fm, hf⟩ := h
    have ed := dp_of di (by omega)
    show w_X7_depth (w_X7_depth_f fu) st v Φ
    unfold w_X7_depth
    have hone : mxD st i 1 = d + 1 := by
      have e0 : dpT st (i + 0) = d := ed
      show max 0 (dpT st (i + 0) + 1) = d + 1
      rw [e0]; omega
    have hmono : ∀ k, k ≤ m → mxD st i (f k - i) ≤ mxD st i len := fun k hk => by
      have hle := seg_le m (fun k hk => (hf k hk).1) k hk
      have := mx_add (st := st) (a := i) (l := f k - i) (i + len - f k)
      rw [show f k - i + (i + len - f k) = len by omega] at this
      omega
    have hge : ∀ k, k ≤ m → d + 1 ≤ mxD st i (f k - i) := fun k hk => by
      have hle := seg_le m (fun k hk => (hf k hk).1) k hk
      have := mx_add (st := st) (a := i) (l := 1) (f k - i - 1)
      rw [show 1 + (f k - i - 1) = f k - i by omega, hone] at this
      omega
    refine loop_up (α := Int32 × Int32) (L := fun q a => w_X7_depth_l4 (w_X7_depth_f fu) Φ (fun (_ : St) (x1 : Int32) => w_X7_depth_b32 (w_X7_depth_f fu) Φ st x1) q st v a.1 a.2) m (fun k a => a.2 = Int32.ofNat k ∧ a.1 = Int32.ofNat (mxD st i (f k - i) - (d + 1))) (fun q k a hk hA k9 => ?_) (fun q a hA => ?_) gFU 0 (0, 0) (by omega) (gFU_big (by omega)) ⟨rfl, by rw [f0, show i + 1 - i = 1 by omega, hone, Nat.sub_self]; rfl⟩
    · obtain ⟨x, y⟩ := a
      obtain ⟨e, hA⟩ := hA
      dsimp only at e hA
      subst e
      subst hA
      show w_X7_depth_l4 _ Φ _ (q + 1) st _ _ _
      obtain ⟨g1, w, g2, g3⟩ := hf k hk
      have hle := seg_le m (fun k hk => (hf k hk).1) k (by omega)
      have hle2 := seg_le m (fun k hk => (hf k hk).1) (k + 1) (by omega)
      have hw : w < gBIG ∧ sh st w = 8 ∧ sI st 177 (38 + 3 * f k) = Int32.ofNat (d + 1) := by
        cases n with
        | zero => exact g3.elim
        | succ n => exact ⟨g3.2.2.1, g3.2.2.2.1, g3.2.2.2.2.2.2.2.2.1⟩
      rw [w_X7_depth_l4, hm3, le_of (by omega) (by omega)]
      have hm1 := hmono (k + 1) (by omega)
      have hm0 := hmono k (by omega)
      have hg0 := hge k (by omega)
      have hadd := mx_add (st := st) (a := i) (l := f k - i) (f (k + 1) - f k)
      rw [show f k - i + (f (k + 1) - f k) = f (k + 1) - i by omega, show i + (f k - i) = f k by omega] at hadd
      have hlow : d + 2 ≤ mxD st (f k) (f (k + 1) - f k) := by
        have := mx_add (st := st) (a := f k) (l := 1) (f (k + 1) - f k - 1)
        have h1 : mxD st (f k) 1 = d + 1 + 1 := by
          have e0 : dpT st (f k + 0) = d + 1 := dp_of hw.2.2 (by omega)
          show max 0 (dpT st (f k + 0) + 1) = _
          rw [e0]; omega
        rw [show 1 + (f (k + 1) - f k - 1) = f (k + 1) - f k by omega, h1] at this
        omega
      refine ⟨fun h => absurd h (by omega), fun _ => ⟨u, u1, u2, u3, ?_, w, ?_, hw.1, hw.2.1, ?_⟩⟩
      · rw [vp_of (by omega), u4]; omega
      · rw [nn_of (by omega)]; exact g2
      · refine x_depth hK n fu w (f k) (d + 1) (f (k + 1) - f k) (mxD st (f k) (f (k + 1) - f k) - (d + 1)) _ (by omega) (by omega) g3 (by omega) (by omega) ?_
        have nx : ∀ x, x = Int32.ofNat (mxD st i (f (k + 1) - i) - (d + 1)) → w_X7_depth_l4 (w_X7_depth_f fu) Φ (fun (_ : St) (x1 : Int32) => w_X7_depth_b32 (w_X7_depth_f fu) Φ st x1) q st v x (Int32.ofNat k + 1) := fun x hx => by
          have hk9 := k9 (x, Int32.ofNat k + 1)
          dsimp only at hk9
          exact hk9 ⟨succ_of k, hx⟩
        unfold w_J8_max
        rw [lt_of (by omega) (by omega)]
        exact ⟨fun h => nx _ (congrArg Int32.ofNat (by omega)), fun h => nx _ (congrArg Int32.ofNat (by omega))⟩
    · obtain ⟨x, y⟩ := a
      obtain ⟨e, hA⟩ := hA
      dsimp only at e hA
      subst e
      subst hA
      show w_X7_depth_l4 _ Φ _ (q + 1) st _ _ _
      rw [w_X7_depth_l4, hm3]
      refine ⟨fun _ => ?_, fun h => absurd (Int32.le_refl _) h⟩
      unfold w_X7_depth_b32
      have hg := hge m (Nat.le_refl _)
      rw [fm, show i + len - i = len by omega] at hg ⊢
      rw [succ_of, show mxD st i len - (d + 1) + 1 = r by omega]
      exact hΦ
theorem un_max {st : St} {K G tot v : Nat} (hT : Tt st K G tot v) : mxD st 0 tot ≤ 6 := by
  have go : ∀ j, j ≤ tot → mxD st 0 j ≤ 6 := fun j => by
    induction j with
    | zero => exact fun _ => Nat.zero_le _
    | succ j ih =>
      intro hj
      have := ih (by omega)
      have := (tt_d hT (show j < tot by omega)).2
      rw [mxD, Nat.zero_add]; omega
  exact go tot (Nat.le_refl _)
theorem Tt_of {b : Nat} {st : St} (hI : Inv (b + 1) st) {K G M N : Nat} (hs : Hs st K G M N) : (sR st 2 7 = none ∧ sI st 177 35 = 0) ∨ ∃ v tot, Tt st K G tot v := by
  obtain ⟨K', G', M', N', ⟨a1, a2, -, -, a5, a6, -⟩, -, -, hTr⟩ := iHr hI
  obtain ⟨q1, q2, q3, q4, q5, q6, -⟩ := hs
  have eK : K' = K := of_inj (by omega) (by omega) (a5.symm.trans q5)
  have eG : G' = G := of_inj (by omega) (by omega) (a6.symm.trans q6)
  subst eK
  subst eG
  rcases hTr with h | ⟨v, len, t1, t2, t3, t4, t5⟩
  · exact Or.inl h
  · exact Or.inr ⟨v, len, t5, t2, t3, t4, t1⟩
theorem Tt_fr {st s : St} {W : Nat → Nat → Prop} {x y : Nat} {K G tot v : Nat} (hF : Fr W x y st s) (hN : 201 ≤ sN st) (hW : ∀ a j, (a = 177 ∧ 35 ≤ j ∧ j < 96) ∨ 201 ≤ a ∨ (a = 2 ∧ j = 7) → ¬ W a j) (h : Tt st K G tot v) : Tt s K G tot v := by
  obtain ⟨h1, h2, h3, h4, h5⟩ := h
  refine ⟨Tn_fr hF (by omega) (fun a j g => hW a j (by rcases g with g | g; exact Or.inl g; exact Or.inr (Or.inl g))) _ _ _ _ _ h1, h2, h3, ?_, ?_⟩
  · rw [(fr_at hF (Or.inl (by omega)) (hW 177 35 (Or.inl ⟨rfl, by omega, by omega⟩))).1]; exact h4
  · rw [(fr_at hF (Or.inl (by omega)) (hW 2 7 (Or.inr (Or.inr ⟨rfl, rfl⟩)))).2.2]; exact h5
theorem o_tree {b : Nat} {st : St} {p1 : Int32} {K E : St → Prop} (hI : Inv (b + 1) st) (hK' : ∀ s, Inv b s → K s) : w_X0_tree st p1 (fun s r => w_X4_tree s p1 (fun s' r' => (r = r' → K s') ∧ (¬ r = r' → E s'))) := by
  obtain ⟨hN, hc1, hc2⟩ := Rm1 hI
  obtain ⟨K', G, M, N, hs⟩ := Hs_of hI
  have q1 := hs.1
  have q2 := hs.2.1
  have hp15 := pt15 q1 q2
  have ok : ∀ r r' : Int32, r = r' → ((r = r' → K st) ∧ (¬ r = r' → E st)) := fun r r' h => ⟨fun _ => hK' _ (Inv_q hI Fr_rf (by omega) (by omega)), fun h' => absurd h h'⟩
  unfold w_X0_tree
  rw [pe_X0_in]
  refine needI (M := fun s Ψ => w_X4_tree s p1 Ψ) hI hK' (by decide) (fun hc => ?_) (fun hc s2 f2 Φ h => ?_)
  · obtain ⟨t, g1, rfl⟩ := inB_nat (m := 3) (by omega) rfl hc
    have t0 : (Int32.ofNat t = 0) = (t = 0) := zN (by omega)
    have t1 : (Int32.ofNat t = 1) = (t = 1) := ofE (n := 1) (by omega) (by omega)
    have t2 : (Int32.ofNat t = 2) = (t = 2) := ofE (n := 2) (by omega) (by omega)
    unfold w_X0_mustGrow w_X0_mustGrow_b15
    rcases Tt_of hI hs with ⟨hn, h0⟩ | ⟨v, tot, hT⟩
    · refine ⟨fun _ => ?_, fun h => absurd hn h⟩
      refine needI (c := false) (k := 2) (M := fun s Ψ => w_X4_tree s (Int32.ofNat t) Ψ) hI hK' (by decide) (fun h => by cases h) (fun _ s2 f2 Φ h => ?_)
      show w_X4_tree s2 _ _
      have e35 : sI s2 177 35 = 0 := (q_at f2 hN (by omega) (nQ_177 (by omega)) (by omega)).1.trans h0
      unfold w_X4_tree
      rw [pe_X4_isIn, hc, ib_nz, ib_z, e35]
      exact ⟨fun _ => ⟨fun h => absurd rfl h, fun _ => h⟩, fun h => (by cases h)⟩
    · obtain ⟨T1, T2, T3, T4, T5⟩ := hT
      have hT : Tt st K' G tot v := ⟨T1, T2, T3, T4, T5⟩
      rw [T5]
      refine ⟨fun h => (by cases h), fun _ => need_1 ?_⟩
      obtain ⟨v1, v2, v3, v4, -, -, ⟨pr, -, pr1, pr2⟩, -⟩ := T1
      have hO : Out st tot (0 + tot) 0 := Or.inl (by omega)
      have hmx := un_max hT
      have hlf := lf_le (st := st) (tot := tot) tot
      -- the reference's count
      have hm : ∀ r : Int32, (t = 0 → r = Int32.ofNat tot) → (t = 1 → r = Int32.ofNat (lfN st tot tot)) → (t = 2 → r = Int32.ofNat (mxD st 0 tot)) → (t = 3 → r = Int32.ofNat pr) → w_X4_tree st (Int32.ofNat t) (fun s' r' => (r = r' → K s') ∧ (¬ r = r' → E s')) := fun r r0 r1 r2 r3 => by
        unfold w_X4_tree
        rw [pe_X4_isIn, hc, ib_nz, ib_z, T4, ne_eq, zN (by omega)]
        refine ⟨fun _ => ⟨fun _ => ?_, fun h => absurd h (by omega)⟩, fun h => (by cases h)⟩
        refine loop_up (α := Int32 × Int32 × Int32) (L := fun m a => w_X4_tree_l41 (fun s' r' => (r = r' → K s') ∧ (¬ r = r' → E s')) (fun (s40 : St) (x1 : Int32) (x2 : Int32) (x3 : Int32) => w_X4_tree_b101 (fun s' r' => (r = r' → K s') ∧ (¬ r = r' → E s')) s40 x1 x2 x3) m st (Int32.ofNat t) a.1 a.2.1 a.2.2) tot (fun j a => a.2.2 = Int32.ofNat j ∧ a.1 = Int32.ofNat (lfN st tot j) ∧ a.2.1 = Int32.ofNat (mxD st 0 j) ∧ mxD st 0 j ≤ 6) (fun m j a hj hA k9 => ?_) (fun m a hA => ?_) gFU 0 (0, 0, 0) (by omega) (gFU_big (by omega)) ⟨rfl, rfl, rfl, Nat.zero_le _⟩
        · obtain ⟨x2, x3, x4⟩ := a
          obtain ⟨e, e2, e3, e4⟩ := hA
          dsimp only at e e2 e3
          subst e
          subst e2
          subst e3
          show w_X4_tree_l41 _ _ (m + 1) st _ _ _ _
          obtain ⟨n', v', d', len', a1, a3, a4, a5, a6⟩ := tt_at hT hj
          obtain ⟨mm, -, -, l1, l2⟩ := lf_m hT a1 a4 a6
          obtain ⟨dj, bj⟩ := tt_d hT hj
          have hun := un_le (st := st) (i := j) tot
          have hle1 := lf_le (st := st) (tot := tot) j
          rw [w_X4_tree_l41, T4, le_of (by omega) (by omega)]
          refine ⟨fun h => absurd h (by omega), fun _ => m_underMany hT hj ?_⟩
          have hz : (Int32.ofNat (unN st j tot) = 0) = (lfB st tot j = true) := by
            rw [zN (by omega)]
            exact propext ((un_z tot).trans (l2.trans l1))
          have hmd : mxD st 0 (j + 1) = max (mxD st 0 j) (dpT st j + 1) := by rw [mxD, Nat.zero_add]
          have go : ∀ c : Nat, c = (if lfB st tot j = true then 1 else 0) → w_X4_tree_b68 (fun s' r' => (r = r' → K s') ∧ (¬ r = r' → E s')) (w_X4_tree_l41 (fun s' r' => (r = r' → K s') ∧ (¬ r = r' → E s')) (fun (s40 : St) (x1 : Int32) (x2 : Int32) (x3 : Int32) => w_X4_tree_b101 (fun s' r' => (r = r' → K s') ∧ (¬ r = r' → E s')) s40 x1 x2 x3) m) st (Int32.ofNat t) (Int32.ofNat (mxD st 0 j)) (Int32.ofNat j) (Int32.ofNat c) (Int32.ofNat (lfN st tot j)) := fun c hcc => by
            unfold w_X4_tree_b68 w_X4_tree_b94
            intro v21 e21
            have ev : v21 = Int32.ofNat (lfN st tot (j + 1)) := by rw [e21, ← Int32.ofNat_add, lfN, hcc]
            have nx : ∀ x, x = Int32.ofNat (mxD st 0 (j + 1)) → w_X4_tree_l41 (fun s' r' => (r = r' → K s') ∧ (¬ r = r' → E s')) (fun (s40 : St) (x1 : Int32) (x2 : Int32) (x3 : Int32) => w_X4_tree_b101 (fun s' r' => (r = r' → K s') ∧ (¬ r = r' → E s')) s40 x1 x2 x3) m st (Int32.ofNat t) v21 x (Int32.ofNat j + 1) := fun x hx => by
              have hk := k9 (v21, x, Int32.ofNat j + 1)
              dsimp only at hk
              exact hk ⟨succ_of j, ev, hx, by omega⟩
            refine m_depth (by omega) ?_
            rw [dj, succ_of, le_of (by omega) (by omega)]
            refine ⟨fun h => nx _ (by congr 1; omega), fun h => m_depth (by omega) ?_⟩
            rw [dj, succ_of]
            exact nx _ (by congr 1; omega)
          rw [ne_eq, hz]
          refine ⟨fun h => go 0 (by rw [if_neg h]), fun h => go 1 (by rw [if_pos h])⟩
        · obtain ⟨x2, x3, x4⟩ := a
          obtain ⟨e, e2, e3, e4⟩ := hA
          dsimp only at e e2 e3
          subst e
          subst e2
          subst e3
          show w_X4_tree_l41 _ _ (m + 1) st _ _ _ _
          rw [w_X4_tree_l41, T4]
          refine ⟨fun _ => ?_, fun h => absurd (Int32.le_refl _) h⟩
          unfold w_X4_tree_b101
          rw [ne_eq, t0, ne_eq, t1, ne_eq, t2, T4]
          have e36 : sI st 177 36 = Int32.ofNat pr := pr2
          rw [e36]
          exact ⟨fun n0 => ⟨fun n1 => ⟨fun n2 => ok _ _ (r3 (by omega)), fun n2 => ok _ _ (r2 n2)⟩, fun n1 => ok _ _ (r1 n1)⟩, fun n0 => ok _ _ (r0 n0)⟩
      have T1' : Tn K' G 177 st 6 v 0 0 tot := hT.1
      rw [t0, t1, t2]
      have ti := ti_of (n := t) (by omega)
      rw [ti]
      refine ⟨fun h => ⟨v, T5, v3, v4, x_nodes (by omega) 6 8 v 0 0 tot _ (by omega) T1' (hm _ (fun _ => rfl) (fun h' => absurd h' (by omega)) (fun h' => absurd h' (by omega)) (fun h' => absurd h' (by omega)))⟩, fun h => ⟨v, T5, v3, v4, x_leaves (by omega) hT 6 8 v 0 0 tot _ (by omega) (by omega) T1' hO (hm _ (fun h' => absurd h' (by omega)) (fun _ => by rw [Nat.zero_add]; rfl) (fun h' => absurd h' (by omega)) (fun h' => absurd h' (by omega)))⟩, fun h => ⟨v, T5, v3, v4, x_depth (by omega) 6 8 v 0 0 tot (mxD st 0 tot) _ (by omega) (by omega) T1' rfl (by omega) (hm _ (fun h' => absurd h' (by omega)) (fun h' => absurd h' (by omega)) (fun _ => rfl) (fun h' => absurd h' (by omega)))⟩, fun h => ⟨v, T5, v3, v4, ?_⟩⟩
      rw [pr1]
      exact hm _ (fun h' => absurd h' (by omega)) (fun h' => absurd h' (by omega)) (fun h' => absurd h' (by omega)) (fun _ => rfl)
  · show w_X4_tree s2 _ _
    unfold w_X4_tree
    rw [pe_X4_isIn, hc, ib_nz, ib_z]
    exact ⟨fun h => (by cases h), fun _ => h⟩
