/-! KERNEL EXISTENCE: an optimal basis of a linear program, by a lexicographic rule; sums over ranges of rationals -/
def sm : Nat → (Nat → Rat) → Rat
  | 0, _ => 0
  | n + 1, f => sm n f + f n
theorem sm_congr {f g : Nat → Rat} : ∀ {n : Nat}, (∀ i, i < n → f i = g i) → sm n f = sm n g
  | 0, _ => rfl
  | n + 1, h => by
    rw [sm, sm, sm_congr (fun i hi => h i (by omega)), h n (by omega)]
theorem sm_add (f g : Nat → Rat) : ∀ n, sm n (fun i => f i + g i) = sm n f + sm n g
  | 0 => by simp only [sm]; grind
  | n + 1 => by rw [sm, sm, sm, sm_add f g n]; grind
theorem sm_sub (f g : Nat → Rat) : ∀ n, sm n (fun i => f i - g i) = sm n f - sm n g
  | 0 => by simp only [sm]; grind
  | n + 1 => by rw [sm, sm, sm, sm_sub f g n]; grind
theorem sm_mul (c : Rat) (f : Nat → Rat) : ∀ n, sm n (fun i => c * f i) = c * sm n f
  | 0 => by simp [sm]
  | n + 1 => by rw [sm, sm, sm_mul c f n]; grind
theorem sm_mulr (c : Rat) (f : Nat → Rat) (n : Nat) : sm n (fun i => f i * c) = sm n f * c := by
  have := sm_mul c f n
  rw [sm_congr (g := fun i => c * f i) (fun i _ => by grind), this]; grind
theorem sm_zero : ∀ n, sm n (fun _ => 0) = 0
  | 0 => rfl
  | n + 1 => by rw [sm, sm_zero n]; grind
theorem sm_swap (f : Nat → Nat → Rat) (m : Nat) : ∀ n, sm n (fun i => sm m (fun j => f i j)) = sm m (fun j => sm n (fun i => f i j))
  | 0 => by simp only [sm]; rw [sm_zero]
  | n + 1 => by rw [sm, sm_swap f m n, ← sm_add]; rfl
theorem sm_upd (f : Nat → Rat) (r : Nat) (x : Rat) : ∀ {n : Nat}, r < n → sm n (fun i => if i = r then x else f i) = sm n f - f r + x
  | 0, h => by omega
  | n + 1, h => by
    rw [sm, sm]
    by_cases e : n = r
    · subst e
      rw [if_pos rfl, sm_congr (g := f) (fun i hi => if_neg (by omega))]; grind
    · rw [if_neg e, sm_upd f r x (by omega)]; grind
theorem sm_delta (r : Nat) (x : Rat) {n : Nat} (h : r < n) : sm n (fun i => if i = r then x else 0) = x := by
  rw [sm_upd (fun _ => 0) r x h, sm_zero]; grind
theorem sm_delf (r : Nat) (f : Nat → Rat) {n : Nat} (h : r < n) : sm n (fun i => f i * (if i = r then 1 else 0)) = f r := by
  rw [sm_congr (g := fun i => if i = r then f r else 0) (fun i _ => by by_cases e : i = r <;> simp [e]), sm_delta r _ h]
theorem sm_delf' (r : Nat) (f : Nat → Rat) {n : Nat} (h : r < n) : sm n (fun i => (if i = r then 1 else 0) * f i) = f r := by
  rw [sm_congr (g := fun i => if i = r then f r else 0) (fun i _ => by by_cases e : i = r <;> simp [e]), sm_delta r _ h]
theorem sm_nonneg {f : Nat → Rat} : ∀ {n : Nat}, (∀ i, i < n → 0 ≤ f i) → 0 ≤ sm n f
  | 0, _ => by simp [sm]
  | n + 1, h => by
    have h1 := sm_nonneg (f := f) (n := n) (fun i hi => h i (by omega))
    have h2 := h n (by omega)
    rw [sm]; grind
theorem sm_ge {f : Nat → Rat} {n r : Nat} (hr : r < n) (h : ∀ i, i < n → 0 ≤ f i) : f r ≤ sm n f := by
  have h1 := sm_upd f r 0 hr
  have h2 : 0 ≤ sm n (fun i => if i = r then 0 else f i) := sm_nonneg (fun i hi => by
    by_cases e : i = r
    · simp [e]
    · simp [e]; exact h i hi)
  grind
def dl (i j : Nat) : Rat := if i = j then 1 else 0
theorem dl_self (i : Nat) : dl i i = 1 := if_pos rfl
theorem dl_ne {i j : Nat} (h : i ≠ j) : dl i j = 0 := if_neg h
/-- a basis: its vectors' matrix and an inverse -/
def Bs (w n : Nat) (V : Nat → Nat → Rat) (β : Nat → Nat) (M : Nat → Nat → Rat) : Prop :=
  (∀ i, i < w → β i < n) ∧ (∀ i j, i < w → j < w → sm w (fun k => M i k * V (β j) k) = dl i j) ∧ (∀ k l, k < w → l < w → sm w (fun i => V (β i) k * M i l) = dl k l)
def co (w : Nat) (V M : Nat → Nat → Rat) (v i : Nat) : Rat := sm w (fun k => M i k * V v k)
def pvβ (β : Nat → Nat) (r v : Nat) : Nat → Nat := fun i => if i = r then v else β i
def pvM (w : Nat) (V M : Nat → Nat → Rat) (r v : Nat) : Nat → Nat → Rat := fun i k => if i = r then M r k / co w V M v r else M i k - co w V M v i * (M r k / co w V M v r)
theorem Bs_exp {w n : Nat} {V : Nat → Nat → Rat} {β : Nat → Nat} {M : Nat → Nat → Rat} (h : Bs w n V β M) (v : Nat) {k : Nat} (hk : k < w) : sm w (fun i => V (β i) k * co w V M v i) = V v k := by
  have e1 : sm w (fun i => V (β i) k * co w V M v i) = sm w (fun i => sm w (fun l => V (β i) k * M i l * V v l)) := sm_congr (fun i _ => by
    rw [co, ← sm_mul]; exact sm_congr (fun l _ => by grind))
  rw [e1, sm_swap]
  rw [sm_congr (g := fun l => V v l * (if l = k then 1 else 0)) (fun l hl => by
    rw [sm_mulr, h.2.2 k l hk hl]; unfold dl; by_cases e : k = l
    · subst e; simp
    · rw [if_neg e, if_neg (fun x => e x.symm)]; grind)]
  exact sm_delf k _ hk
theorem Bs_pivot {w n : Nat} {V : Nat → Nat → Rat} {β : Nat → Nat} {M : Nat → Nat → Rat} (h : Bs w n V β M) {r v : Nat} (hr : r < w) (hv : v < n) (hd : co w V M v r ≠ 0) : Bs w n V (pvβ β r v) (pvM w V M r v) := by
  have he := fun {k : Nat} (hk : k < w) => Bs_exp h v hk
  obtain ⟨h1, h2, h3⟩ := h
  refine ⟨fun i hi => ?_, fun i j hi hj => ?_, fun k l hk hl => ?_⟩
  · unfold pvβ; split
    · exact hv
    · exact h1 i hi
  · have ej : sm w (fun k => M r k / co w V M v r * V (pvβ β r v j) k) = (if j = r then 1 else 0) := by
      rw [sm_congr (g := fun k => (1 / co w V M v r) * (M r k * V (pvβ β r v j) k)) (fun k _ => by grind), sm_mul]
      unfold pvβ
      by_cases e : j = r
      · rw [if_pos e, if_pos e]
        have : sm w (fun k => M r k * V v k) = co w V M v r := rfl
        rw [this]; grind
      · rw [if_neg e, if_neg e, h2 r j hr hj, dl_ne (fun x => e x.symm)]; grind
    by_cases ei : i = r
    · subst ei
      rw [sm_congr (g := fun k => M i k / co w V M v i * V (pvβ β i v j) k) (fun k _ => by unfold pvM; rw [if_pos rfl]), ej]
      unfold dl
      by_cases e : i = j
      · rw [if_pos e, if_pos e.symm]
      · rw [if_neg e, if_neg (fun x => e x.symm)]
    · rw [sm_congr (g := fun k => M i k * V (pvβ β r v j) k - co w V M v i * (M r k / co w V M v r * V (pvβ β r v j) k)) (fun k _ => by unfold pvM; rw [if_neg ei]; grind), sm_sub, sm_mul, ej]
      by_cases e : j = r
      · have : sm w (fun k => M i k * V (pvβ β r v j) k) = co w V M v i := by unfold pvβ co; rw [if_pos e]
        rw [this, if_pos e, dl_ne (by omega)]; grind
      · have : sm w (fun k => M i k * V (pvβ β r v j) k) = dl i j := by unfold pvβ; rw [if_neg e]; exact h2 i j hi hj
        rw [this, if_neg e]; grind
  · have e1 : sm w (fun i => V (pvβ β r v i) k * pvM w V M r v i l) = sm w (fun i => if i = r then V v k * (M r l / co w V M v r) else (V (β i) k * M i l - V (β i) k * co w V M v i * (M r l / co w V M v r))) := sm_congr (fun i _ => by
      unfold pvβ pvM
      by_cases e : i = r
      · rw [if_pos e, if_pos e, if_pos e]
      · rw [if_neg e, if_neg e, if_neg e]; grind)
    rw [e1, sm_upd (fun i => V (β i) k * M i l - V (β i) k * co w V M v i * (M r l / co w V M v r)) r _ hr, sm_sub, sm_mulr, h3 k l hk hl, he hk]
    grind
/-! the lexicographic order -/
def lp (m : Nat) (f : Nat → Rat) : Prop := ∃ k, k < m ∧ 0 < f k ∧ ∀ j, j < k → f j = 0
theorem lp_congr {m : Nat} {f g : Nat → Rat} (h : ∀ k, k < m → f k = g k) (hf : lp m f) : lp m g := by
  obtain ⟨k, h1, h2, h3⟩ := hf
  exact ⟨k, h1, by rw [← h k h1]; exact h2, fun j hj => by rw [← h j (by omega)]; exact h3 j hj⟩
theorem lp_tri (f : Nat → Rat) : ∀ m, lp m f ∨ lp m (fun k => - f k) ∨ ∀ k, k < m → f k = 0
  | 0 => Or.inr (Or.inr (fun k hk => by omega))
  | m + 1 => by
    rcases lp_tri f m with ⟨k, h1, h2, h3⟩ | ⟨k, h1, h2, h3⟩ | h
    · exact Or.inl ⟨k, by omega, h2, h3⟩
    · exact Or.inr (Or.inl ⟨k, by omega, h2, h3⟩)
    · by_cases e : f m = 0
      · exact Or.inr (Or.inr (fun k hk => by
          by_cases e2 : k = m
          · rw [e2]; exact e
          · exact h k (by omega)))
      · by_cases e2 : 0 < f m
        · exact Or.inl ⟨m, by omega, e2, h⟩
        · exact Or.inr (Or.inl ⟨m, by omega, by grind, fun j hj => by show - f j = 0; rw [h j hj]; grind⟩)
theorem lp_add {m : Nat} {f g : Nat → Rat} (hf : lp m f) (hg : lp m g ∨ ∀ k, k < m → g k = 0) : lp m (fun k => f k + g k) := by
  rcases hg with ⟨l, g1, g2, g3⟩ | hg
  · obtain ⟨k, h1, h2, h3⟩ := hf
    rcases Nat.lt_trichotomy k l with h | h | h
    · exact ⟨k, h1, by have := g3 k h; grind, fun j hj => by show f j + g j = 0; rw [h3 j hj, g3 j (by omega)]; grind⟩
    · exact ⟨k, h1, by subst h; grind, fun j hj => by show f j + g j = 0; rw [h3 j hj, g3 j (by omega)]; grind⟩
    · exact ⟨l, g1, by have := h3 l h; grind, fun j hj => by show f j + g j = 0; rw [h3 j (by omega), g3 j hj]; grind⟩
  · exact lp_congr (fun k hk => by rw [hg k hk]; grind) hf
theorem lp_smul {m : Nat} {f : Nat → Rat} {c : Rat} (hc : 0 < c) (hf : lp m f) : lp m (fun k => c * f k) := by
  obtain ⟨k, h1, h2, h3⟩ := hf
  exact ⟨k, h1, Rat.mul_pos hc h2, fun j hj => by show c * f j = 0; rw [h3 j hj]; grind⟩
theorem lp_irr {m : Nat} {f : Nat → Rat} (h0 : ∀ k, k < m → f k = 0) : ¬ lp m f := by
  rintro ⟨k, h1, h2, -⟩
  rw [h0 k h1] at h2; grind
theorem lp_neg {m : Nat} {f : Nat → Rat} (hf : lp m f) : ¬ lp m (fun k => - f k) := fun hg =>
  lp_irr (m := m) (f := fun k => f k + - f k) (fun k _ => by grind) (lp_add hf (Or.inl hg))
theorem minim {α : Type} (lt : α → α → Prop) (irr : ∀ a, ¬ lt a a) (tr : ∀ a b c, lt a b → lt b c → lt a c) : ∀ (L : List α), L ≠ [] → ∃ m, m ∈ L ∧ ∀ y, y ∈ L → ¬ lt y m
  | [], h => absurd rfl h
  | [a], _ => ⟨a, List.mem_singleton.mpr rfl, fun y hy => by rw [List.mem_singleton.mp hy]; exact irr a⟩
  | a :: b :: L, _ => by
    obtain ⟨m, h1, h2⟩ := minim lt irr tr (b :: L) (by simp)
    by_cases e : lt a m
    · exact ⟨a, List.mem_cons_self, fun y hy => by
        rcases List.mem_cons.mp hy with rfl | hy
        · exact irr y
        · exact fun h => h2 y hy (tr _ _ _ h e)⟩
    · exact ⟨m, List.mem_cons_of_mem _ h1, fun y hy => by
        rcases List.mem_cons.mp hy with rfl | hy
        · exact e
        · exact h2 y hy⟩
/-- all rows of so many numbers below n -/
def lall (n : Nat) : Nat → List (List Nat)
  | 0 => [[]]
  | w + 1 => (List.range n).flatMap (fun a => (lall n w).map (fun l => a :: l))
theorem lall_mem {n : Nat} : ∀ {l : List Nat}, (∀ x, x ∈ l → x < n) → l ∈ lall n l.length
  | [], _ => List.mem_singleton.mpr rfl
  | a :: l, h => by
    rw [List.length_cons, lall, List.mem_flatMap]
    exact ⟨a, List.mem_range.mpr (h a List.mem_cons_self), List.mem_map.mpr ⟨l, lall_mem (fun x hx => h x (List.mem_cons_of_mem _ hx)), rfl⟩⟩
theorem Bs_congr {w n : Nat} {V : Nat → Nat → Rat} {β β' : Nat → Nat} {M : Nat → Nat → Rat} (e : ∀ i, i < w → β' i = β i) (h : Bs w n V β M) : Bs w n V β' M :=
  ⟨fun i hi => by rw [e i hi]; exact h.1 i hi, fun i j hi hj => by rw [e j hj]; exact h.2.1 i j hi hj, fun k l hk hl => by
    rw [sm_congr (g := fun i => V (β i) k * M i l) (fun i hi => by rw [e i hi])]; exact h.2.2 k l hk hl⟩
/-- what a basis has to be for the rule: row i of (b, first basis) by it is lexicographically above nought -/
def Lb (w n : Nat) (V U : Nat → Nat → Rat) (β : Nat → Nat) (M : Nat → Nat → Rat) : Prop := Bs w n V β M ∧ ∀ i, i < w → lp (w + 1) (fun k => co w U M k i)
def ob (w : Nat) (U : Nat → Nat → Rat) (c : Nat → Rat) (β : Nat → Nat) (M : Nat → Nat → Rat) (k : Nat) : Rat := sm w (fun i => c (β i) * co w U M k i)
theorem co_pv {w : Nat} {V M U : Nat → Nat → Rat} {r v k i : Nat} : co w U (pvM w V M r v) k i = if i = r then co w U M k r / co w V M v r else co w U M k i - co w V M v i * (co w U M k r / co w V M v r) := by
  have e : sm w (fun j => M r j / co w V M v r * U k j) = co w U M k r / co w V M v r := by
    rw [sm_congr (g := fun j => (1 / co w V M v r) * (M r j * U k j)) (fun j _ => by grind), sm_mul]
    have : sm w (fun j => M r j * U k j) = co w U M k r := rfl
    rw [this]; grind
  by_cases ei : i = r
  · subst ei
    rw [if_pos rfl, ← e]
    exact sm_congr (fun j _ => by unfold pvM; rw [if_pos rfl])
  · rw [if_neg ei, ← e, ← sm_mul]
    show _ = sm w _ - _
    rw [← sm_sub]
    exact sm_congr (fun j _ => by unfold pvM; rw [if_neg ei]; grind)
theorem ob_pv {w : Nat} {V M U : Nat → Nat → Rat} {c : Nat → Rat} {β : Nat → Nat} {r v k : Nat} (hr : r < w) (hd : co w V M v r ≠ 0) : ob w U c (pvβ β r v) (pvM w V M r v) k = ob w U c β M k + (c v - sm w (fun i => c (β i) * co w V M v i)) * (co w U M k r / co w V M v r) := by
  have e : sm w (fun i => c (pvβ β r v i) * co w U (pvM w V M r v) k i) = sm w (fun i => if i = r then c v * (co w U M k r / co w V M v r) else (c (β i) * co w U M k i - c (β i) * co w V M v i * (co w U M k r / co w V M v r))) := sm_congr (fun i _ => by
    rw [co_pv]; unfold pvβ
    by_cases ei : i = r
    · rw [if_pos ei, if_pos ei, if_pos ei]
    · rw [if_neg ei, if_neg ei, if_neg ei]; grind)
  unfold ob
  rw [e, sm_upd (fun i => c (β i) * co w U M k i - c (β i) * co w V M v i * (co w U M k r / co w V M v r)) r _ hr, sm_sub, sm_mulr]
  grind
theorem opt_step {w n : Nat} {V U : Nat → Nat → Rat} {c : Nat → Rat} {β : Nat → Nat} {M : Nat → Nat → Rat} (hc : ∀ v, v < n → 0 ≤ c v) (hU : ∀ u : Nat → Rat, (∀ k, k < w + 1 → sm w (fun j => u j * U k j) = 0) → ∀ j, j < w → u j = 0) (h : Lb w n V U β M) {v : Nat} (hv : v < n) (hn : c v < sm w (fun i => c (β i) * co w V M v i)) : ∃ β' M', Lb w n V U β' M' ∧ lp (w + 1) (fun k => ob w U c β M k - ob w U c β' M' k) := by
  obtain ⟨hb, hl⟩ := h
  -- someone grows with v
  have hex : ((List.range w).filter (fun i => decide (0 < co w V M v i))) ≠ [] := by
    intro e0
    have hle : ∀ i, i < w → ¬ 0 < co w V M v i := fun i hi hp => by
      have : i ∈ (List.range w).filter (fun i => decide (0 < co w V M v i)) := List.mem_filter.mpr ⟨List.mem_range.mpr hi, by simpa using hp⟩
      rw [e0] at this; exact absurd this (List.not_mem_nil)
    have h1 : 0 ≤ sm w (fun i => - (c (β i) * co w V M v i)) := sm_nonneg (fun i hi => by
      have a1 := hc (β i) (hb.1 i hi)
      have a2 := hle i hi
      have a3 : 0 ≤ c (β i) * (- co w V M v i) := Rat.mul_nonneg a1 (by grind)
      grind)
    have h2 : sm w (fun i => - (c (β i) * co w V M v i)) = - sm w (fun i => c (β i) * co w V M v i) := by
      rw [sm_congr (g := fun i => (-1) * (c (β i) * co w V M v i)) (fun i _ => by grind), sm_mul]; grind
    have h3 := hc v hv
    grind
  obtain ⟨r, hr1, hr2⟩ := minim (fun i j => lp (w + 1) (fun k => co w U M k j / co w V M v j - co w U M k i / co w V M v i)) (fun a => lp_irr (fun k _ => by grind)) (fun a b c h1 h2 => lp_congr (fun k _ => by grind) (lp_add h1 (Or.inl h2))) _ hex
  obtain ⟨hr, hdr⟩ := List.mem_filter.mp hr1
  have hr := List.mem_range.mp hr
  have hdr : 0 < co w V M v r := by simpa using hdr
  have hd0 : co w V M v r ≠ 0 := by grind
  refine ⟨pvβ β r v, pvM w V M r v, ⟨Bs_pivot hb hr hv hd0, fun i hi => ?_⟩, ?_⟩
  · have hrr : lp (w + 1) (fun k => co w U M k r / co w V M v r) := lp_congr (fun k _ => by grind) (lp_smul (c := 1 / co w V M v r) (by
      have := Rat.inv_pos.mpr hdr; grind) (hl r hr))
    by_cases e : i = r
    · exact lp_congr (fun k _ => by rw [co_pv, if_pos e]) hrr
    · refine lp_congr (f := fun k => co w U M k i - co w V M v i * (co w U M k r / co w V M v r)) (fun k _ => by rw [co_pv, if_neg e]) ?_
      by_cases hp : 0 < co w V M v i
      · have hm := hr2 i (List.mem_filter.mpr ⟨List.mem_range.mpr hi, by simpa using hp⟩)
        rcases lp_tri (fun k => co w U M k i / co w V M v i - co w U M k r / co w V M v r) (w + 1) with h1 | h1 | h1
        · exact lp_congr (fun k _ => by
            have : co w V M v i ≠ 0 := by grind
            grind) (lp_smul hp h1)
        · exact absurd (lp_congr (fun k _ => by grind) h1) hm
        · exfalso
          have hu := hU (fun j => M i j / co w V M v i - M r j / co w V M v r) (fun k hk => by
            rw [← h1 k hk]
            rw [sm_congr (g := fun j => (1 / co w V M v i) * (M i j * U k j) - (1 / co w V M v r) * (M r j * U k j)) (fun j _ => by grind), sm_sub, sm_mul, sm_mul]
            show (1 / co w V M v i) * co w U M k i - (1 / co w V M v r) * co w U M k r = _
            grind)
          have e1 : sm w (fun k => (M i k / co w V M v i - M r k / co w V M v r) * V (β i) k) = 0 := by
            rw [sm_congr (g := fun _ => 0) (fun k hk => by rw [hu k hk]; grind), sm_zero]
          rw [sm_congr (g := fun k => (1 / co w V M v i) * (M i k * V (β i) k) - (1 / co w V M v r) * (M r k * V (β i) k)) (fun j _ => by grind), sm_sub, sm_mul, sm_mul, hb.2.1 i i hi hi, hb.2.1 r i hr hi, dl_self, dl_ne (fun x => e x.symm)] at e1
          have := Rat.inv_pos.mpr hp
          grind
      · by_cases hz : co w V M v i = 0
        · exact lp_congr (fun k _ => by rw [hz]; grind) (hl i hi)
        · exact lp_congr (fun k _ => by grind) (lp_add (hl i hi) (Or.inl (lp_smul (c := - co w V M v i) (by grind) hrr)))
  · have hrr : lp (w + 1) (fun k => (sm w (fun i => c (β i) * co w V M v i) - c v) / co w V M v r * co w U M k r) := lp_smul (by
      have h1 := Rat.inv_pos.mpr hdr
      have h2 : 0 < (sm w (fun i => c (β i) * co w V M v i) - c v) * (co w V M v r)⁻¹ := Rat.mul_pos (by grind) h1
      grind) (hl r hr)
    exact lp_congr (fun k _ => by rw [ob_pv hr hd0]; grind) hrr
theorem Bs_uniq {w n : Nat} {V : Nat → Nat → Rat} {β : Nat → Nat} {M M' : Nat → Nat → Rat} (h : Bs w n V β M) (h' : Bs w n V β M') {i l : Nat} (hi : i < w) (hl : l < w) : M i l = M' i l := by
  have e1 : sm w (fun k => M i k * sm w (fun j => V (β j) k * M' j l)) = M i l := by
    rw [sm_congr (g := fun k => M i k * (if k = l then 1 else 0)) (fun k hk => by rw [h'.2.2 k l hk hl]; rfl)]
    exact sm_delf l _ hl
  have e2 : sm w (fun k => M i k * sm w (fun j => V (β j) k * M' j l)) = M' i l := by
    rw [sm_congr (g := fun k => sm w (fun j => M i k * V (β j) k * M' j l)) (fun k hk => by rw [← sm_mul]; exact sm_congr (fun j _ => by grind)), sm_swap]
    rw [sm_congr (g := fun j => (if j = i then 1 else 0) * M' j l) (fun j hj => by
      rw [sm_mulr, h.2.1 i j hi hj]; unfold dl; by_cases e : i = j
      · subst e; simp
      · rw [if_neg e, if_neg (fun x => e x.symm)])]
    exact sm_delf' i _ hi
  rw [← e1, e2]
theorem ob_congr {w : Nat} {U : Nat → Nat → Rat} {c : Nat → Rat} {β β' : Nat → Nat} {M M' : Nat → Nat → Rat} (e : ∀ i, i < w → β i = β' i) (eM : ∀ i k, i < w → k < w → M i k = M' i k) (k : Nat) : ob w U c β M k = ob w U c β' M' k :=
  sm_congr (fun i hi => by
    rw [e i hi]
    have : co w U M k i = co w U M' k i := sm_congr (fun j hj => by rw [eM i j hi hj])
    rw [this])
theorem Lb_congr {w n : Nat} {V U : Nat → Nat → Rat} {β β' : Nat → Nat} {M : Nat → Nat → Rat} (e : ∀ i, i < w → β' i = β i) (h : Lb w n V U β M) : Lb w n V U β' M := ⟨Bs_congr e h.1, h.2⟩
theorem opt_basis {w n : Nat} {V : Nat → Nat → Rat} {c b : Nat → Rat} {β0 : Nat → Nat} {M0 : Nat → Nat → Rat} (h0 : Bs w n V β0 M0) (hx : ∀ i, i < w → 0 ≤ sm w (fun j => M0 i j * b j)) (hc : ∀ v, v < n → 0 ≤ c v) :
    ∃ β M, Bs w n V β M ∧ (∀ i, i < w → 0 ≤ sm w (fun j => M i j * b j)) ∧ ∀ v, v < n → sm w (fun i => c (β i) * co w V M v i) ≤ c v := by
  classical
  let U : Nat → Nat → Rat := fun k => if k = 0 then b else V (β0 (k - 1))
  have hU0 : U 0 = b := rfl
  have hU1 : ∀ l, U (l + 1) = V (β0 l) := fun l => by show (if l + 1 = 0 then b else V (β0 (l + 1 - 1))) = _; rw [if_neg (by omega), Nat.add_sub_cancel]
  have hU : ∀ u : Nat → Rat, (∀ k, k < w + 1 → sm w (fun j => u j * U k j) = 0) → ∀ j, j < w → u j = 0 := fun u h j hj => by
    have e1 : sm w (fun k => u k * sm w (fun l => V (β0 l) k * M0 l j)) = u j := by
      rw [sm_congr (g := fun k => u k * (if k = j then 1 else 0)) (fun k hk => by rw [h0.2.2 k j hk hj]; rfl)]
      exact sm_delf j _ hj
    rw [← e1, sm_congr (g := fun k => sm w (fun l => u k * V (β0 l) k * M0 l j)) (fun k hk => by rw [← sm_mul]; exact sm_congr (fun j _ => by grind)), sm_swap, sm_congr (g := fun _ => 0) (fun l hl => by
      rw [sm_mulr]
      have := h (l + 1) (by omega)
      rw [hU1] at this
      rw [this]; grind), sm_zero]
  have hL0 : Lb w n V U β0 M0 := ⟨h0, fun i hi => by
    by_cases hz : 0 < sm w (fun j => M0 i j * b j)
    · exact ⟨0, by omega, hz, fun j hj => by omega⟩
    · refine ⟨i + 1, by omega, ?_, fun k hk => ?_⟩
      · show 0 < sm w (fun j => M0 i j * U (i + 1) j)
        rw [hU1, h0.2.1 i i hi hi, dl_self]; decide
      · show sm w (fun j => M0 i j * U k j) = 0
        cases k with
        | zero => have := hx i hi; rw [hU0]; grind
        | succ k => rw [hU1, h0.2.1 i k hi (by omega), dl_ne (by omega)]⟩
  let L : List ((Nat → Nat) × (Nat → Nat → Rat)) := (((lall n w).map (fun l i => l.getD i 0)).filter (fun β => decide (∃ M, Lb w n V U β M))).map (fun β => (β, if h : ∃ M, Lb w n V U β M then Classical.choose h else fun _ _ => 0))
  have hmem : ∀ β M, Lb w n V U β M → ∃ β' M', (β', M') ∈ L ∧ (∀ i, i < w → β i = β' i) ∧ (∀ i k, i < w → k < w → M i k = M' i k) := fun β M h => by
    have hl : ((List.range w).map β) ∈ lall n w := by
      have := lall_mem (n := n) (l := (List.range w).map β) (fun x hx => by
        obtain ⟨i, hi, rfl⟩ := List.mem_map.mp hx
        exact h.1.1 i (List.mem_range.mp hi))
      rwa [List.length_map, List.length_range] at this
    have e : ∀ i, i < w → (fun i => ((List.range w).map β).getD i 0) i = β i := fun i hi => by
      simp [List.getD, hi]
    have hP : ∃ M, Lb w n V U (fun i => ((List.range w).map β).getD i 0) M := ⟨M, Lb_congr e h⟩
    refine ⟨_, Classical.choose hP, List.mem_map.mpr ⟨_, List.mem_filter.mpr ⟨List.mem_map.mpr ⟨_, hl, rfl⟩, by simpa using hP⟩, by rw [dif_pos hP]⟩, fun i hi => (e i hi).symm, fun i k hi hk => ?_⟩
    exact Bs_uniq (Lb_congr e h).1 (Classical.choose_spec hP).1 hi hk
  have hin : ∀ p, p ∈ L → Lb w n V U p.1 p.2 := fun p hp => by
    obtain ⟨β, hβ, rfl⟩ := List.mem_map.mp hp
    have hP : ∃ M, Lb w n V U β M := by simpa using (List.mem_filter.mp hβ).2
    simp only [dif_pos hP]
    exact Classical.choose_spec hP
  obtain ⟨βa, Ma, hLa, -⟩ := hmem β0 M0 hL0
  obtain ⟨⟨β, M⟩, hm1, hm2⟩ := minim (fun p q : (Nat → Nat) × (Nat → Nat → Rat) => lp (w + 1) (fun k => ob w U c q.1 q.2 k - ob w U c p.1 p.2 k)) (fun a => lp_irr (fun k _ => by grind)) (fun a b c h1 h2 => lp_congr (fun k _ => by grind) (lp_add h1 (Or.inl h2))) L (fun e => by rw [e] at hLa; exact absurd hLa List.not_mem_nil)
  have hb := hin _ hm1
  refine ⟨β, M, hb.1, fun i hi => ?_, fun v hv => ?_⟩
  · obtain ⟨k, h1, h2, h3⟩ := hb.2 i hi
    show 0 ≤ co w U M 0 i
    cases k with
    | zero => exact Rat.le_of_lt h2
    | succ k => have h4 : co w U M 0 i = 0 := h3 0 (by omega); rw [h4]; exact Rat.le_refl
  · rw [← Rat.not_lt]
    intro hlt
    obtain ⟨β', M', h1, h2⟩ := opt_step hc hU hb hv hlt
    obtain ⟨βz, Mz, hz1, hz2, hz3⟩ := hmem β' M' h1
    exact hm2 _ hz1 (lp_congr (fun k _ => by rw [ob_congr hz2 hz3 k]) h2)

def sw (β : Nat → Nat) (a b : Nat) : Nat → Nat := fun i => if i = a then β b else if i = b then β a else β i
theorem sm_sw (f : Nat → Rat) {a b w : Nat} (ha : a < w) (hb : b < w) : sm w (fun i => if i = a then f b else if i = b then f a else f i) = sm w f := by
  by_cases e : a = b
  · subst e
    exact sm_congr (fun i _ => by by_cases e : i = a <;> simp [e])
  · have h1 := sm_upd (fun i => if i = b then f a else f i) a (f b) ha
    rw [h1, sm_upd f b (f a) hb, if_neg e]; grind
/-- an optimal basis of the table -/
def tV (A : Nat → Nat → Rat) (h : Nat) : Nat → Nat → Rat := fun v k => if v < h then A v k else if v = h + k then -1 else 0
def tc (h : Nat) : Nat → Rat := fun v => if v < h then 1 else 0
def Ob (A : Nat → Nat → Rat) (h w : Nat) (β : Nat → Nat) : Prop := ∃ M, Bs w (h + w) (tV A h) β M ∧ (∀ i, i < w → 0 ≤ sm w (fun j => M i j)) ∧ ∀ v, v < h + w → sm w (fun i => tc h (β i) * co w (tV A h) M v i) ≤ tc h v
theorem Ob_sw {A : Nat → Nat → Rat} {h w : Nat} {β : Nat → Nat} (a b : Nat) (ha : a < w) (hb : b < w) (H : Ob A h w β) : Ob A h w (sw β a b) := by
  obtain ⟨M, ⟨h1, h2, h3⟩, h4, h5⟩ := H
  have hs : ∀ i, sw β a b i = β (if i = a then b else if i = b then a else i) := fun i => by
    unfold sw
    by_cases e : i = a
    · rw [if_pos e, if_pos e]
    · rw [if_neg e, if_neg e]
      by_cases e2 : i = b
      · rw [if_pos e2, if_pos e2]
      · rw [if_neg e2, if_neg e2]
  have hi' : ∀ i, i < w → (if i = a then b else if i = b then a else i) < w := fun i hi => by
    by_cases e : i = a
    · rw [if_pos e]; exact hb
    · rw [if_neg e]
      by_cases e2 : i = b
      · rw [if_pos e2]; exact ha
      · rw [if_neg e2]; exact hi
  have hin : ∀ i j : Nat, dl (if i = a then b else if i = b then a else i) (if j = a then b else if j = b then a else j) = dl i j := fun i j => by
    unfold dl; grind
  refine ⟨fun i => M (if i = a then b else if i = b then a else i), ⟨fun i hi => by rw [hs]; exact h1 _ (hi' i hi), fun i j hi hj => ?_, fun k l hk hl => ?_⟩, fun i hi => h4 _ (hi' i hi), fun v hv => ?_⟩
  · rw [← hin]; simp only [hs]; exact h2 _ _ (hi' i hi) (hi' j hj)
  · rw [← h3 k l hk hl, ← sm_sw (fun i => tV A h (β i) k * M i l) ha hb]
    refine sm_congr (fun i _ => ?_)
    rw [hs]
    by_cases e : i = a
    · simp only [if_pos e]
    · by_cases e2 : i = b
      · simp only [if_neg e, if_pos e2]
      · simp only [if_neg e, if_neg e2]
  · have e := h5 v hv
    rw [← sm_sw (fun i => tc h (β i) * co w (tV A h) M v i) ha hb] at e
    rw [sm_congr (g := fun i => if i = a then tc h (β b) * co w (tV A h) M v b else if i = b then tc h (β a) * co w (tV A h) M v a else tc h (β i) * co w (tV A h) M v i) (fun i _ => ?_)]
    · exact e
    · rw [hs]; unfold co
      by_cases e : i = a
      · simp only [if_pos e]
      · by_cases e2 : i = b
        · simp only [if_neg e, if_pos e2]
        · simp only [if_neg e, if_neg e2]
theorem Ob_inj {A : Nat → Nat → Rat} {h w : Nat} {β : Nat → Nat} (H : Ob A h w β) {i j : Nat} (hi : i < w) (hj : j < w) (e : i ≠ j) : β i ≠ β j := by
  obtain ⟨M, ⟨h1, h2, h3⟩, -⟩ := H
  intro e2
  have a1 := h2 i i hi hi
  have a2 := h2 i j hi hj
  rw [← e2, a1, dl_self, dl_ne e] at a2
  exact absurd a2 (by decide)
theorem Ob_ex {A : Nat → Nat → Rat} {h w : Nat} (hh : 0 < h) (hw : 0 < w) (hA : ∀ r c, r < h → c < w → 0 < A r c) : ∃ β, Ob A h w β := by
  obtain ⟨j, hj1, hj2⟩ := minim (fun a b => A 0 a < A 0 b) (fun a => Rat.lt_irrefl) (fun a b c h1 h2 => by grind) (List.range w) (fun e => by
    have : 0 ∈ List.range w := List.mem_range.mpr hw
    rw [e] at this; exact absurd this List.not_mem_nil)
  have hj := List.mem_range.mp hj1
  have hs : Bs w (h + w) (tV A h) (fun i => h + i) (fun i k => if i = k then -1 else 0) := by
    have hv : ∀ i k, tV A h (h + i) k = if i = k then -1 else 0 := fun i k => by
      unfold tV; rw [if_neg (by omega)]
      by_cases e : i = k
      · rw [if_pos e, if_pos (by omega)]
      · rw [if_neg e, if_neg (by omega)]
    refine ⟨fun i hi => by show h + i < h + w; omega, fun i j hi hj => ?_, fun k l hk hl => ?_⟩
    · rw [sm_congr (g := fun k => (if k = i then 1 else 0) * (if j = k then 1 else 0)) (fun k _ => by simp only [hv]; grind)]
      rw [sm_delf' i _ hi]; unfold dl; grind
    · rw [sm_congr (g := fun i => (if i = k then 1 else 0) * (if i = l then 1 else 0)) (fun i _ => by simp only [hv]; grind)]
      rw [sm_delf' k _ hk]; rfl
  have hco : ∀ i, i < w → co w (tV A h) (fun i k => if i = k then -1 else 0) 0 i = - A 0 i := fun i hi => by
    unfold co
    rw [sm_congr (g := fun k => (if k = i then 1 else 0) * (- A 0 k)) (fun k _ => by
      have : tV A h 0 k = A 0 k := if_pos hh
      rw [this]; grind), sm_delf' i _ hi]
  have hp0 := hA 0 j hh hj
  have hb := Bs_pivot hs (r := j) (v := 0) hj (by omega) (by rw [hco j hj]; grind)
  have hinv := Rat.inv_pos.mpr hp0
  obtain ⟨β, M, g1, g2, g3⟩ := opt_basis (c := tc h) (b := fun _ => 1) hb (fun i hi => by
    have e0 : ∀ i, sm w (fun k => (if i = k then (-1 : Rat) else 0) * 1) = if i < w then -1 else 0 := fun i => by
      by_cases e : i < w
      · rw [if_pos e, sm_congr (g := fun k => (if k = i then 1 else 0) * (-1)) (fun k _ => by grind), sm_delf' i _ e]
      · rw [if_neg e, sm_congr (g := fun _ => 0) (fun k hk => by rw [if_neg (by omega)]; grind), sm_zero]
    have e1 := co_pv (w := w) (V := tV A h) (M := fun i k => if i = k then -1 else 0) (U := fun _ _ => 1) (r := j) (v := 0) (k := 0) (i := i)
    have e2 : ∀ i, co w (fun _ _ => 1) (fun i k => if i = k then (-1 : Rat) else 0) 0 i = if i < w then -1 else 0 := e0
    show 0 ≤ co w (fun _ _ => 1) (pvM w (tV A h) (fun i k => if i = k then -1 else 0) j 0) 0 i
    rw [e1, hco j hj, hco i hi, e2, e2, if_pos hj, if_pos hi]
    by_cases e : i = j
    · rw [if_pos e]; grind
    · rw [if_neg e]
      have h1 : ¬ A 0 i < A 0 j := hj2 i (List.mem_range.mpr hi)
      have h2 : 0 ≤ (A 0 i - A 0 j) * (A 0 j)⁻¹ := Rat.mul_nonneg (by grind) (Rat.le_of_lt hinv)
      grind) (fun v hv => by unfold tc; split <;> decide)
  exact ⟨β, M, g1, fun i hi => by
    have := g2 i hi
    rwa [sm_congr (g := fun j => M i j) (fun j _ => by grind)] at this, g3⟩

theorem Ob_facts {A : Nat → Nat → Rat} {h w : Nat} {β : Nat → Nat} (H : Ob A h w β) : ∃ (M : Nat → Nat → Rat) (Q x : Nat → Rat), (∀ r, r < h → sm w (fun k => Q k * A r k) ≤ 1) ∧ (∀ k, k < w → 0 ≤ Q k) ∧ (∀ i, i < w → 0 ≤ x i) ∧ (∀ k, k < w → sm w (fun i => tV A h (β i) k * x i) = 1) ∧ (∀ i, i < w → sm w (fun k => Q k * tV A h (β i) k) = tc h (β i)) ∧ (∀ k l, k < w → l < w → sm w (fun i => tV A h (β i) k * M i l) = dl k l) ∧ ∀ i, i < w → β i < h + w := by
  obtain ⟨M, ⟨h1, h2, h3⟩, h4, h5⟩ := H
  have e : ∀ v, sm w (fun k => sm w (fun i => tc h (β i) * M i k) * tV A h v k) = sm w (fun i => tc h (β i) * co w (tV A h) M v i) := fun v => by
    rw [sm_congr (g := fun k => sm w (fun i => tc h (β i) * M i k * tV A h v k)) (fun k _ => by rw [sm_mulr]), sm_swap]
    refine sm_congr (fun i _ => ?_)
    unfold co
    rw [← sm_mul]
    exact sm_congr (fun k _ => by grind)
  refine ⟨M, fun k => sm w (fun i => tc h (β i) * M i k), fun i => sm w (fun j => M i j), fun r hr => ?_, fun k hk => ?_, h4, fun k hk => ?_, fun i hi => ?_, h3, h1⟩
  · have := h5 r (by omega)
    rw [← e] at this
    have e2 : tc h r = 1 := if_pos hr
    rw [e2] at this
    rwa [sm_congr (g := fun k => sm w (fun i => tc h (β i) * M i k) * A r k) (fun k _ => by rw [show tV A h r k = A r k from if_pos hr])] at this
  · have := h5 (h + k) (by omega)
    rw [← e] at this
    have e2 : tc h (h + k) = 0 := if_neg (by omega)
    rw [e2, sm_congr (g := fun l => (if l = k then 1 else 0) * - sm w (fun i => tc h (β i) * M i l)) (fun l _ => by
      have : tV A h (h + k) l = if l = k then -1 else 0 := by
        unfold tV; rw [if_neg (by omega)]
        by_cases e : l = k
        · rw [if_pos e, if_pos (by omega)]
        · rw [if_neg e, if_neg (by omega)]
      rw [this]; grind), sm_delf' k _ hk] at this
    grind
  · have e3 : sm w (fun i => tV A h (β i) k * sm w (fun j => M i j)) = sm w (fun l => dl k l) := by
      rw [sm_congr (g := fun i => sm w (fun j => tV A h (β i) k * M i j)) (fun i _ => by rw [sm_mul]), sm_swap]
      exact sm_congr (fun l hl => h3 k l hk hl)
    rw [e3, sm_congr (g := fun l => 1 * (if l = k then 1 else 0)) (fun l _ => by unfold dl; grind)]
    exact sm_delf k _ hk
  · rw [e, sm_congr (g := fun j => tc h (β j) * (if j = i then 1 else 0)) (fun j hj => by
      have : co w (tV A h) M (β i) j = dl j i := h2 j i hj hi
      rw [this]; rfl)]
    exact sm_delf i _ hi
theorem sort3 {P : (Nat → Nat) → Prop} (hs : ∀ β i j, i < 3 → j < 3 → P β → P (sw β i j)) (inj : ∀ β, P β → β 0 ≠ β 1 ∧ β 1 ≠ β 2 ∧ β 0 ≠ β 2) {β : Nat → Nat} (h : P β) : ∃ β, P β ∧ β 0 < β 1 ∧ β 1 < β 2 := by
  have h1 : ∃ β, P β ∧ β 0 < β 1 := by
    by_cases e : β 0 < β 1
    · exact ⟨β, h, e⟩
    · have := inj β h
      exact ⟨sw β 0 1, hs β 0 1 (by omega) (by omega) h, by simp [sw]; omega⟩
  obtain ⟨β, h, e⟩ := h1
  have h2 := inj β h
  by_cases e1 : β 1 < β 2
  · exact ⟨β, h, e, e1⟩
  · by_cases e2 : β 0 < β 2
    · exact ⟨sw β 1 2, hs β 1 2 (by omega) (by omega) h, by simp [sw]; omega, by simp [sw]; omega⟩
    · exact ⟨sw (sw β 1 2) 0 1, hs _ 0 1 (by omega) (by omega) (hs β 1 2 (by omega) (by omega) h), by simp [sw]; omega, by simp [sw]; omega⟩
def Kern (A : Nat → Nat → Rat) (h w m : Nat) (I J : Nat → Nat) (q x : Nat → Rat) (N : Nat → Nat → Rat) : Prop :=
  (∀ i, i < m → I i < h) ∧ (∀ i, i + 1 < m → I i < I (i + 1)) ∧ (∀ k, k < m → J k < w) ∧ (∀ k, k + 1 < m → J k < J (k + 1)) ∧ (∀ k, k < m → 0 ≤ q k) ∧ (∀ k, k < m → 0 ≤ x k) ∧ (∀ i, i < m → sm m (fun k => q k * A (I i) (J k)) = 1) ∧ (∀ k, k < m → sm m (fun i => A (I i) (J k) * x i) = 1) ∧ (∀ r, r < h → sm m (fun k => q k * A r (J k)) ≤ 1) ∧ (∀ c, c < w → 1 ≤ sm m (fun i => A (I i) c * x i)) ∧ ∀ k l, k < m → l < m → sm m (fun i => A (I i) (J k) * N i l) = dl k l

theorem KE_1_0 {A : Nat → Nat → Rat} {h : Nat} {β : Nat → Nat} (H : Ob A h 1 β)  (b0 : β 0 < h) : ∃ m I J q x N, 1 ≤ m ∧ m ≤ 1 ∧ Kern A h 1 m I J q x N := by
  obtain ⟨M, Q, x, g1, g2, g3, g4, g5, g6, g7⟩ := Ob_facts H
  have v0 : ∀ k, tV A h (β 0) k = A (β 0) k := fun k => if_pos b0
  have t0 : tc h (β 0) = 1 := if_pos b0
  have p0 := g5 0 (by omega)
  have c0 := g4 0 (by omega)
  have n0 := g3 0 (by omega)
  simp only [sm, v0, t0] at p0
  simp only [sm, v0] at c0
  refine ⟨1, β, fun k => 0, fun k => Q ((fun k => 0) k), x, fun i l => M i ((fun k => 0) l), by omega, by omega, fun i hi => ?_, fun i hi => ?_, fun k hk => ?_, fun k hk => ?_, fun k hk => ?_, fun k hk => g3 k (by omega), fun i hi => ?_, fun k hk => ?_, fun r hr => ?_, fun c hc => ?_, fun k l hk hl => ?_⟩
  · have ei : i = 0 := by omega
    subst ei
    omega
  · omega
  · have ek : k = 0 := by omega
    subst ek
    decide
  · omega
  · have ek : k = 0 := by omega
    subst ek
    exact g2 _ (by decide)
  · have ei : i = 0 := by omega
    subst ei
    simp only [sm]; clear g1 g2 g3 g4 g5 g6 g7 v0 H; grind
  · have ek : k = 0 := by omega
    subst ek
    simp only [sm]; clear g1 g2 g3 g4 g5 g6 g7 v0 H; grind
  · have e := g1 r hr
    simp only [sm] at e ⊢; clear g1 g2 g3 g4 g5 g6 g7 v0 H; grind
  · have ec : c = 0 := by omega
    subst ec
    simp only [sm]; clear g1 g2 g3 g4 g5 g6 g7 v0 H; grind
  · have ek : k = 0 := by omega
    have el : l = 0 := by omega
    subst ek el
    have e := g6 0 0 (by omega) (by omega)
    simp only [sm, v0, dl] at e ⊢; clear g1 g2 g3 g4 g5 g6 g7 v0 H; grind

theorem KE_2_0 {A : Nat → Nat → Rat} {h : Nat} {β : Nat → Nat} (H : Ob A h 2 β) (o0 : β 0 < β 1) (b0 : β 0 < h) (b1 : β 1 = h + 1) : ∃ m I J q x N, 1 ≤ m ∧ m ≤ 2 ∧ Kern A h 2 m I J q x N := by
  obtain ⟨M, Q, x, g1, g2, g3, g4, g5, g6, g7⟩ := Ob_facts H
  have v0 : ∀ k, tV A h (β 0) k = A (β 0) k := fun k => if_pos b0
  have t0 : tc h (β 0) = 1 := if_pos b0
  have v1 : ∀ k, tV A h (β 1) k = if k = 1 then -1 else 0 := fun k => by
    unfold tV; rw [if_neg (by omega), b1]
    by_cases e : k = 1
    · rw [if_pos e, if_pos (by omega)]
    · rw [if_neg e, if_neg (by omega)]
  have t1 : tc h (β 1) = 0 := if_neg (by omega)
  have p0 := g5 0 (by omega)
  have c0 := g4 0 (by omega)
  have n0 := g3 0 (by omega)
  have p1 := g5 1 (by omega)
  have c1 := g4 1 (by omega)
  have n1 := g3 1 (by omega)
  simp only [sm, v0, v1, t0, t1] at p0 p1
  simp only [sm, v0, v1] at c0 c1
  have z1 : Q 1 = 0 := by clear g1 g2 g3 g4 g5 g6 g7 v0 v1 H; grind
  refine ⟨1, β, fun k => 0, fun k => Q ((fun k => 0) k), x, fun i l => M i ((fun k => 0) l), by omega, by omega, fun i hi => ?_, fun i hi => ?_, fun k hk => ?_, fun k hk => ?_, fun k hk => ?_, fun k hk => g3 k (by omega), fun i hi => ?_, fun k hk => ?_, fun r hr => ?_, fun c hc => ?_, fun k l hk hl => ?_⟩
  · have ei : i = 0 := by omega
    subst ei
    omega
  · omega
  · have ek : k = 0 := by omega
    subst ek
    decide
  · omega
  · have ek : k = 0 := by omega
    subst ek
    exact g2 _ (by decide)
  · have ei : i = 0 := by omega
    subst ei
    simp only [sm]; clear g1 g2 g3 g4 g5 g6 g7 v0 v1 H; grind
  · have ek : k = 0 := by omega
    subst ek
    simp only [sm]; clear g1 g2 g3 g4 g5 g6 g7 v0 v1 H; grind
  · have e := g1 r hr
    simp only [sm, z1] at e ⊢; clear g1 g2 g3 g4 g5 g6 g7 v0 v1 H; grind
  · rcases (by omega : c = 0 ∨ c = 1) with rfl | rfl
    · simp only [sm]; clear g1 g2 g3 g4 g5 g6 g7 v0 v1 H; grind
    · simp only [sm]; clear g1 g2 g3 g4 g5 g6 g7 v0 v1 H; grind
  · have ek : k = 0 := by omega
    have el : l = 0 := by omega
    subst ek el
    have e := g6 0 0 (by omega) (by omega)
    simp only [sm, v0, v1, dl] at e ⊢; clear g1 g2 g3 g4 g5 g6 g7 v0 v1 H; grind

theorem KE_2_1 {A : Nat → Nat → Rat} {h : Nat} {β : Nat → Nat} (H : Ob A h 2 β) (o0 : β 0 < β 1) (b0 : β 0 < h) (b1 : β 1 = h + 0) : ∃ m I J q x N, 1 ≤ m ∧ m ≤ 2 ∧ Kern A h 2 m I J q x N := by
  obtain ⟨M, Q, x, g1, g2, g3, g4, g5, g6, g7⟩ := Ob_facts H
  have v0 : ∀ k, tV A h (β 0) k = A (β 0) k := fun k => if_pos b0
  have t0 : tc h (β 0) = 1 := if_pos b0
  have v1 : ∀ k, tV A h (β 1) k = if k = 0 then -1 else 0 := fun k => by
    unfold tV; rw [if_neg (by omega), b1]
    by_cases e : k = 0
    · rw [if_pos e, if_pos (by omega)]
    · rw [if_neg e, if_neg (by omega)]
  have t1 : tc h (β 1) = 0 := if_neg (by omega)
  have p0 := g5 0 (by omega)
  have c0 := g4 0 (by omega)
  have n0 := g3 0 (by omega)
  have p1 := g5 1 (by omega)
  have c1 := g4 1 (by omega)
  have n1 := g3 1 (by omega)
  simp only [sm, v0, v1, t0, t1] at p0 p1
  simp only [sm, v0, v1] at c0 c1
  have z0 : Q 0 = 0 := by clear g1 g2 g3 g4 g5 g6 g7 v0 v1 H; grind
  refine ⟨1, β, fun k => 1, fun k => Q ((fun k => 1) k), x, fun i l => M i ((fun k => 1) l), by omega, by omega, fun i hi => ?_, fun i hi => ?_, fun k hk => ?_, fun k hk => ?_, fun k hk => ?_, fun k hk => g3 k (by omega), fun i hi => ?_, fun k hk => ?_, fun r hr => ?_, fun c hc => ?_, fun k l hk hl => ?_⟩
  · have ei : i = 0 := by omega
    subst ei
    omega
  · omega
  · have ek : k = 0 := by omega
    subst ek
    decide
  · omega
  · have ek : k = 0 := by omega
    subst ek
    exact g2 _ (by decide)
  · have ei : i = 0 := by omega
    subst ei
    simp only [sm]; clear g1 g2 g3 g4 g5 g6 g7 v0 v1 H; grind
  · have ek : k = 0 := by omega
    subst ek
    simp only [sm]; clear g1 g2 g3 g4 g5 g6 g7 v0 v1 H; grind
  · have e := g1 r hr
    simp only [sm, z0] at e ⊢; clear g1 g2 g3 g4 g5 g6 g7 v0 v1 H; grind
  · rcases (by omega : c = 0 ∨ c = 1) with rfl | rfl
    · simp only [sm]; clear g1 g2 g3 g4 g5 g6 g7 v0 v1 H; grind
    · simp only [sm]; clear g1 g2 g3 g4 g5 g6 g7 v0 v1 H; grind
  · have ek : k = 0 := by omega
    have el : l = 0 := by omega
    subst ek el
    have e := g6 1 1 (by omega) (by omega)
    simp only [sm, v0, v1, dl] at e ⊢; clear g1 g2 g3 g4 g5 g6 g7 v0 v1 H; grind

theorem KE_2_01 {A : Nat → Nat → Rat} {h : Nat} {β : Nat → Nat} (H : Ob A h 2 β) (o0 : β 0 < β 1) (b0 : β 0 < h) (b1 : β 1 < h) : ∃ m I J q x N, 1 ≤ m ∧ m ≤ 2 ∧ Kern A h 2 m I J q x N := by
  obtain ⟨M, Q, x, g1, g2, g3, g4, g5, g6, g7⟩ := Ob_facts H
  have v0 : ∀ k, tV A h (β 0) k = A (β 0) k := fun k => if_pos b0
  have t0 : tc h (β 0) = 1 := if_pos b0
  have v1 : ∀ k, tV A h (β 1) k = A (β 1) k := fun k => if_pos b1
  have t1 : tc h (β 1) = 1 := if_pos b1
  have p0 := g5 0 (by omega)
  have c0 := g4 0 (by omega)
  have n0 := g3 0 (by omega)
  have p1 := g5 1 (by omega)
  have c1 := g4 1 (by omega)
  have n1 := g3 1 (by omega)
  simp only [sm, v0, v1, t0, t1] at p0 p1
  simp only [sm, v0, v1] at c0 c1
  refine ⟨2, β, fun k => if k = 0 then 0 else 1, fun k => Q ((fun k => if k = 0 then 0 else 1) k), x, fun i l => M i ((fun k => if k = 0 then 0 else 1) l), by omega, by omega, fun i hi => ?_, fun i hi => ?_, fun k hk => ?_, fun k hk => ?_, fun k hk => ?_, fun k hk => g3 k (by omega), fun i hi => ?_, fun k hk => ?_, fun r hr => ?_, fun c hc => ?_, fun k l hk hl => ?_⟩
  · rcases (by omega : i = 0 ∨ i = 1) with rfl | rfl
    · omega
    · omega
  · have ei : i = 0 := by omega
    subst ei
    omega
  · rcases (by omega : k = 0 ∨ k = 1) with rfl | rfl
    · decide
    · decide
  · have ek : k = 0 := by omega
    subst ek
    decide
  · rcases (by omega : k = 0 ∨ k = 1) with rfl | rfl
    · exact g2 _ (by decide)
    · exact g2 _ (by decide)
  · rcases (by omega : i = 0 ∨ i = 1) with rfl | rfl
    · simp only [sm]; clear g1 g2 g3 g4 g5 g6 g7 v0 v1 H; grind
    · simp only [sm]; clear g1 g2 g3 g4 g5 g6 g7 v0 v1 H; grind
  · rcases (by omega : k = 0 ∨ k = 1) with rfl | rfl
    · simp only [sm]; clear g1 g2 g3 g4 g5 g6 g7 v0 v1 H; grind
    · simp only [sm]; clear g1 g2 g3 g4 g5 g6 g7 v0 v1 H; grind
  · have e := g1 r hr
    simp only [sm] at e ⊢; clear g1 g2 g3 g4 g5 g6 g7 v0 v1 H; grind
  · rcases (by omega : c = 0 ∨ c = 1) with rfl | rfl
    · simp only [sm]; clear g1 g2 g3 g4 g5 g6 g7 v0 v1 H; grind
    · simp only [sm]; clear g1 g2 g3 g4 g5 g6 g7 v0 v1 H; grind
  · rcases (by omega : k = 0 ∨ k = 1) with rfl | rfl
    · rcases (by omega : l = 0 ∨ l = 1) with rfl | rfl
      · have e := g6 0 0 (by omega) (by omega)
        simp only [sm, v0, v1, dl] at e ⊢; clear g1 g2 g3 g4 g5 g6 g7 v0 v1 H; grind
      · have e := g6 0 1 (by omega) (by omega)
        simp only [sm, v0, v1, dl] at e ⊢; clear g1 g2 g3 g4 g5 g6 g7 v0 v1 H; grind
    · rcases (by omega : l = 0 ∨ l = 1) with rfl | rfl
      · have e := g6 1 0 (by omega) (by omega)
        simp only [sm, v0, v1, dl] at e ⊢; clear g1 g2 g3 g4 g5 g6 g7 v0 v1 H; grind
      · have e := g6 1 1 (by omega) (by omega)
        simp only [sm, v0, v1, dl] at e ⊢; clear g1 g2 g3 g4 g5 g6 g7 v0 v1 H; grind

theorem KE_3_0 {A : Nat → Nat → Rat} {h : Nat} {β : Nat → Nat} (H : Ob A h 3 β) (o0 : β 0 < β 1) (o1 : β 1 < β 2) (b0 : β 0 < h) (b1 : β 1 = h + 1) (b2 : β 2 = h + 2) : ∃ m I J q x N, 1 ≤ m ∧ m ≤ 3 ∧ Kern A h 3 m I J q x N := by
  obtain ⟨M, Q, x, g1, g2, g3, g4, g5, g6, g7⟩ := Ob_facts H
  have v0 : ∀ k, tV A h (β 0) k = A (β 0) k := fun k => if_pos b0
  have t0 : tc h (β 0) = 1 := if_pos b0
  have v1 : ∀ k, tV A h (β 1) k = if k = 1 then -1 else 0 := fun k => by
    unfold tV; rw [if_neg (by omega), b1]
    by_cases e : k = 1
    · rw [if_pos e, if_pos (by omega)]
    · rw [if_neg e, if_neg (by omega)]
  have t1 : tc h (β 1) = 0 := if_neg (by omega)
  have v2 : ∀ k, tV A h (β 2) k = if k = 2 then -1 else 0 := fun k => by
    unfold tV; rw [if_neg (by omega), b2]
    by_cases e : k = 2
    · rw [if_pos e, if_pos (by omega)]
    · rw [if_neg e, if_neg (by omega)]
  have t2 : tc h (β 2) = 0 := if_neg (by omega)
  have p0 := g5 0 (by omega)
  have c0 := g4 0 (by omega)
  have n0 := g3 0 (by omega)
  have p1 := g5 1 (by omega)
  have c1 := g4 1 (by omega)
  have n1 := g3 1 (by omega)
  have p2 := g5 2 (by omega)
  have c2 := g4 2 (by omega)
  have n2 := g3 2 (by omega)
  simp only [sm, v0, v1, v2, t0, t1, t2] at p0 p1 p2
  simp only [sm, v0, v1, v2] at c0 c1 c2
  have z1 : Q 1 = 0 := by clear g1 g2 g3 g4 g5 g6 g7 v0 v1 v2 H; grind
  have z2 : Q 2 = 0 := by clear g1 g2 g3 g4 g5 g6 g7 v0 v1 v2 H; grind
  refine ⟨1, β, fun k => 0, fun k => Q ((fun k => 0) k), x, fun i l => M i ((fun k => 0) l), by omega, by omega, fun i hi => ?_, fun i hi => ?_, fun k hk => ?_, fun k hk => ?_, fun k hk => ?_, fun k hk => g3 k (by omega), fun i hi => ?_, fun k hk => ?_, fun r hr => ?_, fun c hc => ?_, fun k l hk hl => ?_⟩
  · have ei : i = 0 := by omega
    subst ei
    omega
  · omega
  · have ek : k = 0 := by omega
    subst ek
    decide
  · omega
  · have ek : k = 0 := by omega
    subst ek
    exact g2 _ (by decide)
  · have ei : i = 0 := by omega
    subst ei
    simp only [sm]; clear g1 g2 g3 g4 g5 g6 g7 v0 v1 v2 H; grind
  · have ek : k = 0 := by omega
    subst ek
    simp only [sm]; clear g1 g2 g3 g4 g5 g6 g7 v0 v1 v2 H; grind
  · have e := g1 r hr
    simp only [sm, z1, z2] at e ⊢; clear g1 g2 g3 g4 g5 g6 g7 v0 v1 v2 H; grind
  · rcases (by omega : c = 0 ∨ c = 1 ∨ c = 2) with rfl | rfl | rfl
    · simp only [sm]; clear g1 g2 g3 g4 g5 g6 g7 v0 v1 v2 H; grind
    · simp only [sm]; clear g1 g2 g3 g4 g5 g6 g7 v0 v1 v2 H; grind
    · simp only [sm]; clear g1 g2 g3 g4 g5 g6 g7 v0 v1 v2 H; grind
  · have ek : k = 0 := by omega
    have el : l = 0 := by omega
    subst ek el
    have e := g6 0 0 (by omega) (by omega)
    simp only [sm, v0, v1, v2, dl] at e ⊢; clear g1 g2 g3 g4 g5 g6 g7 v0 v1 v2 H; grind

theorem KE_3_1 {A : Nat → Nat → Rat} {h : Nat} {β : Nat → Nat} (H : Ob A h 3 β) (o0 : β 0 < β 1) (o1 : β 1 < β 2) (b0 : β 0 < h) (b1 : β 1 = h + 0) (b2 : β 2 = h + 2) : ∃ m I J q x N, 1 ≤ m ∧ m ≤ 3 ∧ Kern A h 3 m I J q x N := by
  obtain ⟨M, Q, x, g1, g2, g3, g4, g5, g6, g7⟩ := Ob_facts H
  have v0 : ∀ k, tV A h (β 0) k = A (β 0) k := fun k => if_pos b0
  have t0 : tc h (β 0) = 1 := if_pos b0
  have v1 : ∀ k, tV A h (β 1) k = if k = 0 then -1 else 0 := fun k => by
    unfold tV; rw [if_neg (by omega), b1]
    by_cases e : k = 0
    · rw [if_pos e, if_pos (by omega)]
    · rw [if_neg e, if_neg (by omega)]
  have t1 : tc h (β 1) = 0 := if_neg (by omega)
  have v2 : ∀ k, tV A h (β 2) k = if k = 2 then -1 else 0 := fun k => by
    unfold tV; rw [if_neg (by omega), b2]
    by_cases e : k = 2
    · rw [if_pos e, if_pos (by omega)]
    · rw [if_neg e, if_neg (by omega)]
  have t2 : tc h (β 2) = 0 := if_neg (by omega)
  have p0 := g5 0 (by omega)
  have c0 := g4 0 (by omega)
  have n0 := g3 0 (by omega)
  have p1 := g5 1 (by omega)
  have c1 := g4 1 (by omega)
  have n1 := g3 1 (by omega)
  have p2 := g5 2 (by omega)
  have c2 := g4 2 (by omega)
  have n2 := g3 2 (by omega)
  simp only [sm, v0, v1, v2, t0, t1, t2] at p0 p1 p2
  simp only [sm, v0, v1, v2] at c0 c1 c2
  have z0 : Q 0 = 0 := by clear g1 g2 g3 g4 g5 g6 g7 v0 v1 v2 H; grind
  have z2 : Q 2 = 0 := by clear g1 g2 g3 g4 g5 g6 g7 v0 v1 v2 H; grind
  refine ⟨1, β, fun k => 1, fun k => Q ((fun k => 1) k), x, fun i l => M i ((fun k => 1) l), by omega, by omega, fun i hi => ?_, fun i hi => ?_, fun k hk => ?_, fun k hk => ?_, fun k hk => ?_, fun k hk => g3 k (by omega), fun i hi => ?_, fun k hk => ?_, fun r hr => ?_, fun c hc => ?_, fun k l hk hl => ?_⟩
  · have ei : i = 0 := by omega
    subst ei
    omega
  · omega
  · have ek : k = 0 := by omega
    subst ek
    decide
  · omega
  · have ek : k = 0 := by omega
    subst ek
    exact g2 _ (by decide)
  · have ei : i = 0 := by omega
    subst ei
    simp only [sm]; clear g1 g2 g3 g4 g5 g6 g7 v0 v1 v2 H; grind
  · have ek : k = 0 := by omega
    subst ek
    simp only [sm]; clear g1 g2 g3 g4 g5 g6 g7 v0 v1 v2 H; grind
  · have e := g1 r hr
    simp only [sm, z0, z2] at e ⊢; clear g1 g2 g3 g4 g5 g6 g7 v0 v1 v2 H; grind
  · rcases (by omega : c = 0 ∨ c = 1 ∨ c = 2) with rfl | rfl | rfl
    · simp only [sm]; clear g1 g2 g3 g4 g5 g6 g7 v0 v1 v2 H; grind
    · simp only [sm]; clear g1 g2 g3 g4 g5 g6 g7 v0 v1 v2 H; grind
    · simp only [sm]; clear g1 g2 g3 g4 g5 g6 g7 v0 v1 v2 H; grind
  · have ek : k = 0 := by omega
    have el : l = 0 := by omega
    subst ek el
    have e := g6 1 1 (by omega) (by omega)
    simp only [sm, v0, v1, v2, dl] at e ⊢; clear g1 g2 g3 g4 g5 g6 g7 v0 v1 v2 H; grind

theorem KE_3_2 {A : Nat → Nat → Rat} {h : Nat} {β : Nat → Nat} (H : Ob A h 3 β) (o0 : β 0 < β 1) (o1 : β 1 < β 2) (b0 : β 0 < h) (b1 : β 1 = h + 0) (b2 : β 2 = h + 1) : ∃ m I J q x N, 1 ≤ m ∧ m ≤ 3 ∧ Kern A h 3 m I J q x N := by
  obtain ⟨M, Q, x, g1, g2, g3, g4, g5, g6, g7⟩ := Ob_facts H
  have v0 : ∀ k, tV A h (β 0) k = A (β 0) k := fun k => if_pos b0
  have t0 : tc h (β 0) = 1 := if_pos b0
  have v1 : ∀ k, tV A h (β 1) k = if k = 0 then -1 else 0 := fun k => by
    unfold tV; rw [if_neg (by omega), b1]
    by_cases e : k = 0
    · rw [if_pos e, if_pos (by omega)]
    · rw [if_neg e, if_neg (by omega)]
  have t1 : tc h (β 1) = 0 := if_neg (by omega)
  have v2 : ∀ k, tV A h (β 2) k = if k = 1 then -1 else 0 := fun k => by
    unfold tV; rw [if_neg (by omega), b2]
    by_cases e : k = 1
    · rw [if_pos e, if_pos (by omega)]
    · rw [if_neg e, if_neg (by omega)]
  have t2 : tc h (β 2) = 0 := if_neg (by omega)
  have p0 := g5 0 (by omega)
  have c0 := g4 0 (by omega)
  have n0 := g3 0 (by omega)
  have p1 := g5 1 (by omega)
  have c1 := g4 1 (by omega)
  have n1 := g3 1 (by omega)
  have p2 := g5 2 (by omega)
  have c2 := g4 2 (by omega)
  have n2 := g3 2 (by omega)
  simp only [sm, v0, v1, v2, t0, t1, t2] at p0 p1 p2
  simp only [sm, v0, v1, v2] at c0 c1 c2
  have z0 : Q 0 = 0 := by clear g1 g2 g3 g4 g5 g6 g7 v0 v1 v2 H; grind
  have z1 : Q 1 = 0 := by clear g1 g2 g3 g4 g5 g6 g7 v0 v1 v2 H; grind
  refine ⟨1, β, fun k => 2, fun k => Q ((fun k => 2) k), x, fun i l => M i ((fun k => 2) l), by omega, by omega, fun i hi => ?_, fun i hi => ?_, fun k hk => ?_, fun k hk => ?_, fun k hk => ?_, fun k hk => g3 k (by omega), fun i hi => ?_, fun k hk => ?_, fun r hr => ?_, fun c hc => ?_, fun k l hk hl => ?_⟩
  · have ei : i = 0 := by omega
    subst ei
    omega
  · omega
  · have ek : k = 0 := by omega
    subst ek
    decide
  · omega
  · have ek : k = 0 := by omega
    subst ek
    exact g2 _ (by decide)
  · have ei : i = 0 := by omega
    subst ei
    simp only [sm]; clear g1 g2 g3 g4 g5 g6 g7 v0 v1 v2 H; grind
  · have ek : k = 0 := by omega
    subst ek
    simp only [sm]; clear g1 g2 g3 g4 g5 g6 g7 v0 v1 v2 H; grind
  · have e := g1 r hr
    simp only [sm, z0, z1] at e ⊢; clear g1 g2 g3 g4 g5 g6 g7 v0 v1 v2 H; grind
  · rcases (by omega : c = 0 ∨ c = 1 ∨ c = 2) with rfl | rfl | rfl
    · simp only [sm]; clear g1 g2 g3 g4 g5 g6 g7 v0 v1 v2 H; grind
    · simp only [sm]; clear g1 g2 g3 g4 g5 g6 g7 v0 v1 v2 H; grind
    · simp only [sm]; clear g1 g2 g3 g4 g5 g6 g7 v0 v1 v2 H; grind
  · have ek : k = 0 := by omega
    have el : l = 0 := by omega
    subst ek el
    have e := g6 2 2 (by omega) (by omega)
    simp only [sm, v0, v1, v2, dl] at e ⊢; clear g1 g2 g3 g4 g5 g6 g7 v0 v1 v2 H; grind

theorem KE_3_01 {A : Nat → Nat → Rat} {h : Nat} {β : Nat → Nat} (H : Ob A h 3 β) (o0 : β 0 < β 1) (o1 : β 1 < β 2) (b0 : β 0 < h) (b1 : β 1 < h) (b2 : β 2 = h + 2) : ∃ m I J q x N, 1 ≤ m ∧ m ≤ 3 ∧ Kern A h 3 m I J q x N := by
  obtain ⟨M, Q, x, g1, g2, g3, g4, g5, g6, g7⟩ := Ob_facts H
  have v0 : ∀ k, tV A h (β 0) k = A (β 0) k := fun k => if_pos b0
  have t0 : tc h (β 0) = 1 := if_pos b0
  have v1 : ∀ k, tV A h (β 1) k = A (β 1) k := fun k => if_pos b1
  have t1 : tc h (β 1) = 1 := if_pos b1
  have v2 : ∀ k, tV A h (β 2) k = if k = 2 then -1 else 0 := fun k => by
    unfold tV; rw [if_neg (by omega), b2]
    by_cases e : k = 2
    · rw [if_pos e, if_pos (by omega)]
    · rw [if_neg e, if_neg (by omega)]
  have t2 : tc h (β 2) = 0 := if_neg (by omega)
  have p0 := g5 0 (by omega)
  have c0 := g4 0 (by omega)
  have n0 := g3 0 (by omega)
  have p1 := g5 1 (by omega)
  have c1 := g4 1 (by omega)
  have n1 := g3 1 (by omega)
  have p2 := g5 2 (by omega)
  have c2 := g4 2 (by omega)
  have n2 := g3 2 (by omega)
  simp only [sm, v0, v1, v2, t0, t1, t2] at p0 p1 p2
  simp only [sm, v0, v1, v2] at c0 c1 c2
  have z2 : Q 2 = 0 := by clear g1 g2 g3 g4 g5 g6 g7 v0 v1 v2 H; grind
  refine ⟨2, β, fun k => if k = 0 then 0 else 1, fun k => Q ((fun k => if k = 0 then 0 else 1) k), x, fun i l => M i ((fun k => if k = 0 then 0 else 1) l), by omega, by omega, fun i hi => ?_, fun i hi => ?_, fun k hk => ?_, fun k hk => ?_, fun k hk => ?_, fun k hk => g3 k (by omega), fun i hi => ?_, fun k hk => ?_, fun r hr => ?_, fun c hc => ?_, fun k l hk hl => ?_⟩
  · rcases (by omega : i = 0 ∨ i = 1) with rfl | rfl
    · omega
    · omega
  · have ei : i = 0 := by omega
    subst ei
    omega
  · rcases (by omega : k = 0 ∨ k = 1) with rfl | rfl
    · decide
    · decide
  · have ek : k = 0 := by omega
    subst ek
    decide
  · rcases (by omega : k = 0 ∨ k = 1) with rfl | rfl
    · exact g2 _ (by decide)
    · exact g2 _ (by decide)
  · rcases (by omega : i = 0 ∨ i = 1) with rfl | rfl
    · simp only [sm]; clear g1 g2 g3 g4 g5 g6 g7 v0 v1 v2 H; grind
    · simp only [sm]; clear g1 g2 g3 g4 g5 g6 g7 v0 v1 v2 H; grind
  · rcases (by omega : k = 0 ∨ k = 1) with rfl | rfl
    · simp only [sm]; clear g1 g2 g3 g4 g5 g6 g7 v0 v1 v2 H; grind
    · simp only [sm]; clear g1 g2 g3 g4 g5 g6 g7 v0 v1 v2 H; grind
  · have e := g1 r hr
    simp only [sm, z2] at e ⊢; clear g1 g2 g3 g4 g5 g6 g7 v0 v1 v2 H; grind
  · rcases (by omega : c = 0 ∨ c = 1 ∨ c = 2) with rfl | rfl | rfl
    · simp only [sm]; clear g1 g2 g3 g4 g5 g6 g7 v0 v1 v2 H; grind
    · simp only [sm]; clear g1 g2 g3 g4 g5 g6 g7 v0 v1 v2 H; grind
    · simp only [sm]; clear g1 g2 g3 g4 g5 g6 g7 v0 v1 v2 H; grind
  · rcases (by omega : k = 0 ∨ k = 1) with rfl | rfl
    · rcases (by omega : l = 0 ∨ l = 1) with rfl | rfl
      · have e := g6 0 0 (by omega) (by omega)
        simp only [sm, v0, v1, v2, dl] at e ⊢; clear g1 g2 g3 g4 g5 g6 g7 v0 v1 v2 H; grind
      · have e := g6 0 1 (by omega) (by omega)
        simp only [sm, v0, v1, v2, dl] at e ⊢; clear g1 g2 g3 g4 g5 g6 g7 v0 v1 v2 H; grind
    · rcases (by omega : l = 0 ∨ l = 1) with rfl | rfl
      · have e := g6 1 0 (by omega) (by omega)
        simp only [sm, v0, v1, v2, dl] at e ⊢; clear g1 g2 g3 g4 g5 g6 g7 v0 v1 v2 H; grind
      · have e := g6 1 1 (by omega) (by omega)
        simp only [sm, v0, v1, v2, dl] at e ⊢; clear g1 g2 g3 g4 g5 g6 g7 v0 v1 v2 H; grind

theorem KE_3_02 {A : Nat → Nat → Rat} {h : Nat} {β : Nat → Nat} (H : Ob A h 3 β) (o0 : β 0 < β 1) (o1 : β 1 < β 2) (b0 : β 0 < h) (b1 : β 1 < h) (b2 : β 2 = h + 1) : ∃ m I J q x N, 1 ≤ m ∧ m ≤ 3 ∧ Kern A h 3 m I J q x N := by
  obtain ⟨M, Q, x, g1, g2, g3, g4, g5, g6, g7⟩ := Ob_facts H
  have v0 : ∀ k, tV A h (β 0) k = A (β 0) k := fun k => if_pos b0
  have t0 : tc h (β 0) = 1 := if_pos b0
  have v1 : ∀ k, tV A h (β 1) k = A (β 1) k := fun k => if_pos b1
  have t1 : tc h (β 1) = 1 := if_pos b1
  have v2 : ∀ k, tV A h (β 2) k = if k = 1 then -1 else 0 := fun k => by
    unfold tV; rw [if_neg (by omega), b2]
    by_cases e : k = 1
    · rw [if_pos e, if_pos (by omega)]
    · rw [if_neg e, if_neg (by omega)]
  have t2 : tc h (β 2) = 0 := if_neg (by omega)
  have p0 := g5 0 (by omega)
  have c0 := g4 0 (by omega)
  have n0 := g3 0 (by omega)
  have p1 := g5 1 (by omega)
  have c1 := g4 1 (by omega)
  have n1 := g3 1 (by omega)
  have p2 := g5 2 (by omega)
  have c2 := g4 2 (by omega)
  have n2 := g3 2 (by omega)
  simp only [sm, v0, v1, v2, t0, t1, t2] at p0 p1 p2
  simp only [sm, v0, v1, v2] at c0 c1 c2
  have z1 : Q 1 = 0 := by clear g1 g2 g3 g4 g5 g6 g7 v0 v1 v2 H; grind
  refine ⟨2, β, fun k => if k = 0 then 0 else 2, fun k => Q ((fun k => if k = 0 then 0 else 2) k), x, fun i l => M i ((fun k => if k = 0 then 0 else 2) l), by omega, by omega, fun i hi => ?_, fun i hi => ?_, fun k hk => ?_, fun k hk => ?_, fun k hk => ?_, fun k hk => g3 k (by omega), fun i hi => ?_, fun k hk => ?_, fun r hr => ?_, fun c hc => ?_, fun k l hk hl => ?_⟩
  · rcases (by omega : i = 0 ∨ i = 1) with rfl | rfl
    · omega
    · omega
  · have ei : i = 0 := by omega
    subst ei
    omega
  · rcases (by omega : k = 0 ∨ k = 1) with rfl | rfl
    · decide
    · decide
  · have ek : k = 0 := by omega
    subst ek
    decide
  · rcases (by omega : k = 0 ∨ k = 1) with rfl | rfl
    · exact g2 _ (by decide)
    · exact g2 _ (by decide)
  · rcases (by omega : i = 0 ∨ i = 1) with rfl | rfl
    · simp only [sm]; clear g1 g2 g3 g4 g5 g6 g7 v0 v1 v2 H; grind
    · simp only [sm]; clear g1 g2 g3 g4 g5 g6 g7 v0 v1 v2 H; grind
  · rcases (by omega : k = 0 ∨ k = 1) with rfl | rfl
    · simp only [sm]; clear g1 g2 g3 g4 g5 g6 g7 v0 v1 v2 H; grind
    · simp only [sm]; clear g1 g2 g3 g4 g5 g6 g7 v0 v1 v2 H; grind
  · have e := g1 r hr
    simp only [sm, z1] at e ⊢; clear g1 g2 g3 g4 g5 g6 g7 v0 v1 v2 H; grind
  · rcases (by omega : c = 0 ∨ c = 1 ∨ c = 2) with rfl | rfl | rfl
    · simp only [sm]; clear g1 g2 g3 g4 g5 g6 g7 v0 v1 v2 H; grind
    · simp only [sm]; clear g1 g2 g3 g4 g5 g6 g7 v0 v1 v2 H; grind
    · simp only [sm]; clear g1 g2 g3 g4 g5 g6 g7 v0 v1 v2 H; grind
  · rcases (by omega : k = 0 ∨ k = 1) with rfl | rfl
    · rcases (by omega : l = 0 ∨ l = 1) with rfl | rfl
      · have e := g6 0 0 (by omega) (by omega)
        simp only [sm, v0, v1, v2, dl] at e ⊢; clear g1 g2 g3 g4 g5 g6 g7 v0 v1 v2 H; grind
      · have e := g6 0 2 (by omega) (by omega)
        simp only [sm, v0, v1, v2, dl] at e ⊢; clear g1 g2 g3 g4 g5 g6 g7 v0 v1 v2 H; grind
    · rcases (by omega : l = 0 ∨ l = 1) with rfl | rfl
      · have e := g6 2 0 (by omega) (by omega)
        simp only [sm, v0, v1, v2, dl] at e ⊢; clear g1 g2 g3 g4 g5 g6 g7 v0 v1 v2 H; grind
      · have e := g6 2 2 (by omega) (by omega)
        simp only [sm, v0, v1, v2, dl] at e ⊢; clear g1 g2 g3 g4 g5 g6 g7 v0 v1 v2 H; grind

theorem KE_3_12 {A : Nat → Nat → Rat} {h : Nat} {β : Nat → Nat} (H : Ob A h 3 β) (o0 : β 0 < β 1) (o1 : β 1 < β 2) (b0 : β 0 < h) (b1 : β 1 < h) (b2 : β 2 = h + 0) : ∃ m I J q x N, 1 ≤ m ∧ m ≤ 3 ∧ Kern A h 3 m I J q x N := by
  obtain ⟨M, Q, x, g1, g2, g3, g4, g5, g6, g7⟩ := Ob_facts H
  have v0 : ∀ k, tV A h (β 0) k = A (β 0) k := fun k => if_pos b0
  have t0 : tc h (β 0) = 1 := if_pos b0
  have v1 : ∀ k, tV A h (β 1) k = A (β 1) k := fun k => if_pos b1
  have t1 : tc h (β 1) = 1 := if_pos b1
  have v2 : ∀ k, tV A h (β 2) k = if k = 0 then -1 else 0 := fun k => by
    unfold tV; rw [if_neg (by omega), b2]
    by_cases e : k = 0
    · rw [if_pos e, if_pos (by omega)]
    · rw [if_neg e, if_neg (by omega)]
  have t2 : tc h (β 2) = 0 := if_neg (by omega)
  have p0 := g5 0 (by omega)
  have c0 := g4 0 (by omega)
  have n0 := g3 0 (by omega)
  have p1 := g5 1 (by omega)
  have c1 := g4 1 (by omega)
  have n1 := g3 1 (by omega)
  have p2 := g5 2 (by omega)
  have c2 := g4 2 (by omega)
  have n2 := g3 2 (by omega)
  simp only [sm, v0, v1, v2, t0, t1, t2] at p0 p1 p2
  simp only [sm, v0, v1, v2] at c0 c1 c2
  have z0 : Q 0 = 0 := by clear g1 g2 g3 g4 g5 g6 g7 v0 v1 v2 H; grind
  refine ⟨2, β, fun k => if k = 0 then 1 else 2, fun k => Q ((fun k => if k = 0 then 1 else 2) k), x, fun i l => M i ((fun k => if k = 0 then 1 else 2) l), by omega, by omega, fun i hi => ?_, fun i hi => ?_, fun k hk => ?_, fun k hk => ?_, fun k hk => ?_, fun k hk => g3 k (by omega), fun i hi => ?_, fun k hk => ?_, fun r hr => ?_, fun c hc => ?_, fun k l hk hl => ?_⟩
  · rcases (by omega : i = 0 ∨ i = 1) with rfl | rfl
    · omega
    · omega
  · have ei : i = 0 := by omega
    subst ei
    omega
  · rcases (by omega : k = 0 ∨ k = 1) with rfl | rfl
    · decide
    · decide
  · have ek : k = 0 := by omega
    subst ek
    decide
  · rcases (by omega : k = 0 ∨ k = 1) with rfl | rfl
    · exact g2 _ (by decide)
    · exact g2 _ (by decide)
  · rcases (by omega : i = 0 ∨ i = 1) with rfl | rfl
    · simp only [sm]; clear g1 g2 g3 g4 g5 g6 g7 v0 v1 v2 H; grind
    · simp only [sm]; clear g1 g2 g3 g4 g5 g6 g7 v0 v1 v2 H; grind
  · rcases (by omega : k = 0 ∨ k = 1) with rfl | rfl
    · simp only [sm]; clear g1 g2 g3 g4 g5 g6 g7 v0 v1 v2 H; grind
    · simp only [sm]; clear g1 g2 g3 g4 g5 g6 g7 v0 v1 v2 H; grind
  · have e := g1 r hr
    simp only [sm, z0] at e ⊢; clear g1 g2 g3 g4 g5 g6 g7 v0 v1 v2 H; grind
  · rcases (by omega : c = 0 ∨ c = 1 ∨ c = 2) with rfl | rfl | rfl
    · simp only [sm]; clear g1 g2 g3 g4 g5 g6 g7 v0 v1 v2 H; grind
    · simp only [sm]; clear g1 g2 g3 g4 g5 g6 g7 v0 v1 v2 H; grind
    · simp only [sm]; clear g1 g2 g3 g4 g5 g6 g7 v0 v1 v2 H; grind
  · rcases (by omega : k = 0 ∨ k = 1) with rfl | rfl
    · rcases (by omega : l = 0 ∨ l = 1) with rfl | rfl
      · have e := g6 1 1 (by omega) (by omega)
        simp only [sm, v0, v1, v2, dl] at e ⊢; clear g1 g2 g3 g4 g5 g6 g7 v0 v1 v2 H; grind
      · have e := g6 1 2 (by omega) (by omega)
        simp only [sm, v0, v1, v2, dl] at e ⊢; clear g1 g2 g3 g4 g5 g6 g7 v0 v1 v2 H; grind
    · rcases (by omega : l = 0 ∨ l = 1) with rfl | rfl
      · have e := g6 2 1 (by omega) (by omega)
        simp only [sm, v0, v1, v2, dl] at e ⊢; clear g1 g2 g3 g4 g5 g6 g7 v0 v1 v2 H; grind
      · have e := g6 2 2 (by omega) (by omega)
        simp only [sm, v0, v1, v2, dl] at e ⊢; clear g1 g2 g3 g4 g5 g6 g7 v0 v1 v2 H; grind

theorem KE_3_012 {A : Nat → Nat → Rat} {h : Nat} {β : Nat → Nat} (H : Ob A h 3 β) (o0 : β 0 < β 1) (o1 : β 1 < β 2) (b0 : β 0 < h) (b1 : β 1 < h) (b2 : β 2 < h) : ∃ m I J q x N, 1 ≤ m ∧ m ≤ 3 ∧ Kern A h 3 m I J q x N := by
  obtain ⟨M, Q, x, g1, g2, g3, g4, g5, g6, g7⟩ := Ob_facts H
  have v0 : ∀ k, tV A h (β 0) k = A (β 0) k := fun k => if_pos b0
  have t0 : tc h (β 0) = 1 := if_pos b0
  have v1 : ∀ k, tV A h (β 1) k = A (β 1) k := fun k => if_pos b1
  have t1 : tc h (β 1) = 1 := if_pos b1
  have v2 : ∀ k, tV A h (β 2) k = A (β 2) k := fun k => if_pos b2
  have t2 : tc h (β 2) = 1 := if_pos b2
  have p0 := g5 0 (by omega)
  have c0 := g4 0 (by omega)
  have n0 := g3 0 (by omega)
  have p1 := g5 1 (by omega)
  have c1 := g4 1 (by omega)
  have n1 := g3 1 (by omega)
  have p2 := g5 2 (by omega)
  have c2 := g4 2 (by omega)
  have n2 := g3 2 (by omega)
  simp only [sm, v0, v1, v2, t0, t1, t2] at p0 p1 p2
  simp only [sm, v0, v1, v2] at c0 c1 c2
  refine ⟨3, β, fun k => if k = 0 then 0 else if k = 1 then 1 else 2, fun k => Q ((fun k => if k = 0 then 0 else if k = 1 then 1 else 2) k), x, fun i l => M i ((fun k => if k = 0 then 0 else if k = 1 then 1 else 2) l), by omega, by omega, fun i hi => ?_, fun i hi => ?_, fun k hk => ?_, fun k hk => ?_, fun k hk => ?_, fun k hk => g3 k (by omega), fun i hi => ?_, fun k hk => ?_, fun r hr => ?_, fun c hc => ?_, fun k l hk hl => ?_⟩
  · rcases (by omega : i = 0 ∨ i = 1 ∨ i = 2) with rfl | rfl | rfl
    · omega
    · omega
    · omega
  · rcases (by omega : i = 0 ∨ i = 1) with rfl | rfl
    · omega
    · omega
  · rcases (by omega : k = 0 ∨ k = 1 ∨ k = 2) with rfl | rfl | rfl
    · decide
    · decide
    · decide
  · rcases (by omega : k = 0 ∨ k = 1) with rfl | rfl
    · decide
    · decide
  · rcases (by omega : k = 0 ∨ k = 1 ∨ k = 2) with rfl | rfl | rfl
    · exact g2 _ (by decide)
    · exact g2 _ (by decide)
    · exact g2 _ (by decide)
  · rcases (by omega : i = 0 ∨ i = 1 ∨ i = 2) with rfl | rfl | rfl
    · simp only [sm]; clear g1 g2 g3 g4 g5 g6 g7 v0 v1 v2 H; grind
    · simp only [sm]; clear g1 g2 g3 g4 g5 g6 g7 v0 v1 v2 H; grind
    · simp only [sm]; clear g1 g2 g3 g4 g5 g6 g7 v0 v1 v2 H; grind
  · rcases (by omega : k = 0 ∨ k = 1 ∨ k = 2) with rfl | rfl | rfl
    · simp only [sm]; clear g1 g2 g3 g4 g5 g6 g7 v0 v1 v2 H; grind
    · simp only [sm]; clear g1 g2 g3 g4 g5 g6 g7 v0 v1 v2 H; grind
    · simp only [sm]; clear g1 g2 g3 g4 g5 g6 g7 v0 v1 v2 H; grind
  · have e := g1 r hr
    simp only [sm] at e ⊢; clear g1 g2 g3 g4 g5 g6 g7 v0 v1 v2 H; grind
  · rcases (by omega : c = 0 ∨ c = 1 ∨ c = 2) with rfl | rfl | rfl
    · simp only [sm]; clear g1 g2 g3 g4 g5 g6 g7 v0 v1 v2 H; grind
    · simp only [sm]; clear g1 g2 g3 g4 g5 g6 g7 v0 v1 v2 H; grind
    · simp only [sm]; clear g1 g2 g3 g4 g5 g6 g7 v0 v1 v2 H; grind
  · rcases (by omega : k = 0 ∨ k = 1 ∨ k = 2) with rfl | rfl | rfl
    · rcases (by omega : l = 0 ∨ l = 1 ∨ l = 2) with rfl | rfl | rfl
      · have e := g6 0 0 (by omega) (by omega)
        simp only [sm, v0, v1, v2, dl] at e ⊢; clear g1 g2 g3 g4 g5 g6 g7 v0 v1 v2 H; grind
      · have e := g6 0 1 (by omega) (by omega)
        simp only [sm, v0, v1, v2, dl] at e ⊢; clear g1 g2 g3 g4 g5 g6 g7 v0 v1 v2 H; grind
      · have e := g6 0 2 (by omega) (by omega)
        simp only [sm, v0, v1, v2, dl] at e ⊢; clear g1 g2 g3 g4 g5 g6 g7 v0 v1 v2 H; grind
    · rcases (by omega : l = 0 ∨ l = 1 ∨ l = 2) with rfl | rfl | rfl
      · have e := g6 1 0 (by omega) (by omega)
        simp only [sm, v0, v1, v2, dl] at e ⊢; clear g1 g2 g3 g4 g5 g6 g7 v0 v1 v2 H; grind
      · have e := g6 1 1 (by omega) (by omega)
        simp only [sm, v0, v1, v2, dl] at e ⊢; clear g1 g2 g3 g4 g5 g6 g7 v0 v1 v2 H; grind
      · have e := g6 1 2 (by omega) (by omega)
        simp only [sm, v0, v1, v2, dl] at e ⊢; clear g1 g2 g3 g4 g5 g6 g7 v0 v1 v2 H; grind
    · rcases (by omega : l = 0 ∨ l = 1 ∨ l = 2) with rfl | rfl | rfl
      · have e := g6 2 0 (by omega) (by omega)
        simp only [sm, v0, v1, v2, dl] at e ⊢; clear g1 g2 g3 g4 g5 g6 g7 v0 v1 v2 H; grind
      · have e := g6 2 1 (by omega) (by omega)
        simp only [sm, v0, v1, v2, dl] at e ⊢; clear g1 g2 g3 g4 g5 g6 g7 v0 v1 v2 H; grind
      · have e := g6 2 2 (by omega) (by omega)
        simp only [sm, v0, v1, v2, dl] at e ⊢; clear g1 g2 g3 g4 g5 g6 g7 v0 v1 v2 H; grind

theorem KE_ex {A : Nat → Nat → Rat} {h w : Nat} (hh : 0 < h) (hw : 0 < w) (h3 : w ≤ 3) (hA : ∀ r c, r < h → c < w → 0 < A r c) : ∃ m I J q x N, 1 ≤ m ∧ m ≤ w ∧ Kern A h w m I J q x N := by
  obtain ⟨β, H⟩ := Ob_ex hh hw hA
  have hn : ∀ β, Ob A h w β → ¬ ∀ i, i < w → ¬ β i < h := fun β H hz => by
    obtain ⟨M, Q, x, g1, g2, g3, g4, g5, g6, g7⟩ := Ob_facts H
    have e := g4 0 hw
    have e2 : 0 ≤ sm w (fun i => - (tV A h (β i) 0 * x i)) := sm_nonneg (fun i hi => by
      have h1 := g3 i hi
      have : tV A h (β i) 0 = -1 ∨ tV A h (β i) 0 = 0 := by
        unfold tV; rw [if_neg (hz i hi)]
        by_cases e : β i = h + 0
        · rw [if_pos e]; exact Or.inl rfl
        · rw [if_neg e]; exact Or.inr rfl
      rcases this with h2 | h2 <;> rw [h2] <;> grind)
    rw [sm_congr (g := fun i => (-1) * (tV A h (β i) 0 * x i)) (fun i _ => by grind), sm_mul, e] at e2
    revert e2; grind
  have hlt : ∀ β, Ob A h w β → ∀ i, i < w → β i < h + w := fun β H => by
    obtain ⟨M, Q, x, g1, g2, g3, g4, g5, g6, g7⟩ := Ob_facts H
    exact g7
  rcases (by omega : w = 1 ∨ w = 2 ∨ w = 3) with rfl | rfl | rfl
  · have h1 := hn β H
    by_cases e : β 0 < h
    · exact KE_1_0 H e
    · exact absurd (fun i hi => by rw [show i = 0 by omega]; exact e) h1
  · have hs : ∃ β, Ob A h 2 β ∧ β 0 < β 1 := by
      have := Ob_inj H (i := 0) (j := 1) (by omega) (by omega) (by omega)
      by_cases e : β 0 < β 1
      · exact ⟨β, H, e⟩
      · exact ⟨sw β 0 1, Ob_sw 0 1 (by omega) (by omega) H, by simp [sw]; omega⟩
    obtain ⟨β, H, o0⟩ := hs
    have h1 := hlt β H 1 (by omega)
    by_cases e0 : β 0 < h
    · by_cases e1 : β 1 < h
      · exact KE_2_01 H o0 e0 e1
      · rcases (by omega : β 1 = h + 0 ∨ β 1 = h + 1) with e | e
        · exact KE_2_1 H o0 e0 e
        · exact KE_2_0 H o0 e0 e
    · exact absurd (fun i hi => by rcases (by omega : i = 0 ∨ i = 1) with rfl | rfl <;> omega) (hn β H)
  · obtain ⟨β, H, o0, o1⟩ := sort3 (P := fun β => Ob A h 3 β) (fun β i j hi hj H => Ob_sw i j hi hj H) (fun β H => ⟨Ob_inj H (by omega) (by omega) (by omega), Ob_inj H (by omega) (by omega) (by omega), Ob_inj H (by omega) (by omega) (by omega)⟩) H
    have h2 := hlt β H 2 (by omega)
    by_cases e0 : β 0 < h
    · by_cases e1 : β 1 < h
      · by_cases e2 : β 2 < h
        · exact KE_3_012 H o0 o1 e0 e1 e2
        · rcases (by omega : β 2 = h + 0 ∨ β 2 = h + 1 ∨ β 2 = h + 2) with e | e | e
          · exact KE_3_12 H o0 o1 e0 e1 e
          · exact KE_3_02 H o0 o1 e0 e1 e
          · exact KE_3_01 H o0 o1 e0 e1 e
      · rcases (by omega : (β 1 = h + 0 ∧ β 2 = h + 1) ∨ (β 1 = h + 0 ∧ β 2 = h + 2) ∨ (β 1 = h + 1 ∧ β 2 = h + 2)) with ⟨e, f⟩ | ⟨e, f⟩ | ⟨e, f⟩
        · exact KE_3_2 H o0 o1 e0 e f
        · exact KE_3_1 H o0 o1 e0 e f
        · exact KE_3_0 H o0 o1 e0 e f
    · exact absurd (fun i hi => by rcases (by omega : i = 0 ∨ i = 1 ∨ i = 2) with rfl | rfl | rfl <;> omega) (hn β H)
