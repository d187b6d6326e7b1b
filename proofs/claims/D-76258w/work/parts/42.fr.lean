/-! PLAIN LAW, 3: what each part of the invariant rests on; the start; errors -/
set_option maxRecDepth 100000
def REr (a j : Nat) : Prop := a = 1 ∨ a = 176
def RHr (o q a j : Nat) : Prop := (o ≤ a ∧ a ≤ o + 30) ∨ (a = q ∧ j < 96) ∨ 201 ≤ a
def RIm (a j : Nat) : Prop := (a = 0 ∧ (j = 4 ∨ j = 5)) ∨ (a = 175 ∧ j = 4) ∨ (33 ≤ a ∧ a ≤ 63) ∨ a = 178 ∨ 201 ≤ a
def RZz (a j : Nat) : Prop := (a = 0 ∧ j = 6) ∨ (a = 177 ∧ j = 96)
def RPy (a j : Nat) : Prop := (a = 0 ∧ (j = 43 ∨ j = 44 ∨ j = 46 ∨ j = 47)) ∨ (a = 175 ∧ (j = 5 ∨ j = 6)) ∨ a = 147 ∨ a = 180 ∨ a = 181 ∨ 201 ≤ a
def RTp (a j : Nat) : Prop := (a = 0 ∧ j = 33) ∨ (a = 175 ∧ j = 10) ∨ a = 146 ∨ a = 182
def RLi (a j : Nat) : Prop := (a = 0 ∧ j = 42) ∨ (a = 175 ∧ j = 13) ∨ a = 183 ∨ 201 ≤ a
def RSx (a j : Nat) : Prop := (170 ≤ a ∧ a ≤ 174) ∨ (185 ≤ a ∧ a ≤ 187) ∨ 201 ≤ a
def RNt (a j : Nat) : Prop := a = 138
section FR
variable {st st' : St} {W : Nat → Nat → Prop} {x y b : Nat}
theorem fr_at (hF : Fr W x y st st') {a j : Nat} (ha : a < sN st ∨ gBIG ≤ a) (hw : ¬ W a j) : Same st st' a j := (hF.2.2.2 a ha).2.2 j hw
theorem Er_fr (hF : Fr W x y st st') (hN : 201 ≤ sN st) (hW : ∀ a j, REr a j → ¬ W a j) (h : Er st) : Er st' := fun k hk => by
  rw [(fr_at hF (Or.inl (by omega)) (hW 1 k (Or.inl rfl))).1, (fr_at hF (Or.inl (by omega)) (hW 176 k (Or.inr rfl))).1]
  exact h k hk
theorem Tn_fr (hF : Fr W x y st st') {K G q : Nat} (hq : q < sN st) (hW : ∀ a j, (a = q ∧ 35 ≤ j ∧ j < 96) ∨ 201 ≤ a → ¬ W a j) : ∀ (n v i d len : Nat), Tn K G q st n v i d len → Tn K G q st' n v i d len
  | 0, _, _, _, _, h => h
  | n + 1, v, i, d, len, h => by
    obtain ⟨h1, h2, h3, h4, h5, h6, ⟨p, p1, p2, p3⟩, ⟨r, r1, r2, r3⟩, h7, u, u1, u2, u3, u4, u5, u6, m, m1, m2, f, f1, f2, f3⟩ := h
    have hN := hF.1
    have ev := hF.2.2.2 v (Or.inl h2)
    have eu := hF.2.2.2 u (Or.inl u3)
    have sv : ∀ j, Same st st' v j := fun j => ev.2.2 j (hW v j (Or.inr h1))
    have su : ∀ j, Same st st' u j := fun j => eu.2.2 j (hW u j (Or.inr u2))
    have sq : ∀ j, 35 ≤ j ∧ j < 96 → sI st' q j = sI st q j := fun j hj => (fr_at hF (Or.inl hq) (hW q j (Or.inl ⟨rfl, hj⟩))).1
    refine ⟨h1, by omega, h3, by rw [ev.1]; exact h4, h5, h6, ⟨p, p1, by rw [(sv 0).1]; exact p2, by rw [sq _ (by omega)]; exact p3⟩, ⟨r, r1, by rw [(sv 1).1]; exact r2, by rw [sq _ (by omega)]; exact r3⟩, by rw [sq _ (by omega)]; exact h7, u, by rw [(sv 2).2.2]; exact u1, u2, by omega, u4, by rw [eu.1]; exact u5, by rw [eu.2.1]; exact u6, m, m1, by rw [(sv 3).1]; exact m2, f, f1, f2, fun k hk => ?_⟩
    obtain ⟨g1, w, g2, g3⟩ := f3 k hk
    exact ⟨g1, w, by rw [(su k).2.2]; exact g2, Tn_fr hF hq hW n w _ _ _ g3⟩
theorem Tr_fr (hF : Fr W x y st st') {o q K G : Nat} (ho : o < sN st) (hq : q < sN st) (hW : ∀ a j, (a = o ∧ j = 7) ∨ (a = q ∧ 35 ≤ j ∧ j < 96) ∨ 201 ≤ a → ¬ W a j) (h : Tr o q st K G) : Tr o q st' K G := by
  have e1 := (fr_at hF (Or.inl ho) (hW o 7 (Or.inl ⟨rfl, rfl⟩))).2.2
  have e2 := (fr_at hF (Or.inl hq) (hW q 35 (Or.inr (Or.inl ⟨rfl, by omega, by omega⟩)))).1
  rcases h with ⟨t1, t2⟩ | ⟨v, len, t1, t2, t3, t4, t5⟩
  · exact Or.inl ⟨by rw [e1]; exact t1, by rw [e2]; exact t2⟩
  · exact Or.inr ⟨v, len, by rw [e1]; exact t1, t2, t3, by rw [e2]; exact t4, Tn_fr hF hq (fun a j h => hW a j (Or.inr h)) _ _ _ _ _ t5⟩
theorem pt15 {K G : Nat} (hK : K = 2 ∨ K = 3) (hG : 1 ≤ G ∧ G ≤ 4) : ptN K G ≤ 15 ∧ 1 ≤ ptN K G := by
  rcases hK with rfl | rfl <;> rcases (by omega : G = 1 ∨ G = 2 ∨ G = 3 ∨ G = 4) with rfl | rfl | rfl | rfl <;> decide
theorem Gv_fr (hF : Fr W x y st st') (hN : 201 ≤ sN st) {o K G : Nat} (ho : o + 30 < 201) (hp : ptN K G ≤ 15) (hW : ∀ a j, (a = o ∧ j = 9) ∨ (o + 16 ≤ a ∧ a ≤ o + 30) → ¬ W a j) (h : Gv o st K G) : Gv o st' K G := by
  refine ⟨by rw [(fr_at hF (Or.inl (by omega)) (hW o 9 (Or.inl ⟨rfl, rfl⟩))).1]; exact h.1, fun p k hp2 hk => ?_⟩
  rw [(fr_at hF (Or.inl (by omega)) (hW _ k (Or.inr ⟨by omega, by omega⟩))).1]
  exact h.2 p k hp2 hk
theorem Hr_fr (hF : Fr W x y st st') (hN : 201 ≤ sN st) {o q : Nat} (ho : o + 30 < 201) (hq : q < 201) (hW : ∀ a j, RHr o q a j → ¬ W a j) (h : Hr o q st) : Hr o q st' := by
  obtain ⟨K, G, M, N, ⟨r1, r2, r3, r4, r5, r6, r7, r8, ⟨p, r9, r10⟩, r11, r12⟩, ⟨c1, c2, c3, c4⟩, ⟨g1, g2⟩, ht⟩ := h
  have so : ∀ a j, o ≤ a → a ≤ o + 30 → Same st st' a j := fun a j h1 h2 => fr_at hF (Or.inl (by omega)) (hW a j (Or.inl ⟨h1, h2⟩))
  have sq : ∀ j, j < 96 → sI st' q j = sI st q j := fun j hj => (fr_at hF (Or.inl (by omega)) (hW q j (Or.inr (Or.inl ⟨rfl, hj⟩)))).1
  have hpt : ptN K G ≤ 15 := by
    rcases r1 with rfl | rfl <;> rcases (by omega : G = 1 ∨ G = 2 ∨ G = 3 ∨ G = 4) with rfl | rfl | rfl | rfl <;> decide
  refine ⟨K, G, M, N, ⟨r1, r2, r3, r4, by rw [sq _ (by omega)]; exact r5, by rw [sq _ (by omega)]; exact r6, by rw [sq _ (by omega)]; exact r7, by rw [sq _ (by omega)]; exact r8, ⟨p, r9, by rw [sq _ (by omega)]; exact r10⟩, fun j h1 h2 => by rw [sq _ (by omega)]; exact r11 j h1 h2, fun j h1 h2 => by rw [sq _ (by omega)]; exact r12 j h1 h2⟩, ⟨fun j hj => ?_, ?_, fun g r c hg hr hc => ?_, fun k hk => ?_⟩, ⟨?_, fun p k hp hk => ?_⟩, ?_⟩
  · rw [(so o j (by omega) (by omega)).1, sq _ (by omega)]; exact c1 j hj
  · rw [(so o 4 (by omega) (by omega)).1, sq _ (by omega)]; exact c2
  · rw [(so _ c (by omega) (by omega)).1, sq _ (by omega)]; exact c3 g r c hg hr hc
  · rw [(so _ k (by omega) (by omega)).1, sq _ (by omega)]; exact c4 k hk
  · rw [(so o 9 (by omega) (by omega)).1]; exact g1
  · rw [(so _ k (by omega) (by omega)).1]; exact g2 p k hp hk
  · rcases ht with ⟨t1, t2⟩ | ⟨v, len, t1, t2, t3, t4, t5⟩
    · exact Or.inl ⟨by rw [(so o 7 (by omega) (by omega)).2.2]; exact t1, by rw [sq _ (by omega)]; exact t2⟩
    · exact Or.inr ⟨v, len, by rw [(so o 7 (by omega) (by omega)).2.2]; exact t1, t2, t3, by rw [sq _ (by omega)]; exact t4, Tn_fr hF (by omega) (fun a j h => hW a j (by unfold RHr; omega)) _ _ _ _ _ t5⟩
theorem Im_fr (hF : Fr W x y st st') (hN : 201 ≤ sN st) (hW : ∀ a j, RIm a j → ¬ W a j) (h : Im (b + 1) st) : Im b st' := by
  obtain ⟨h1, n, h2, h3, h4⟩ := h
  have s0 : ∀ j, j = 4 ∨ j = 5 → sI st' 0 j = sI st 0 j := fun j hj => (fr_at hF (Or.inl (by omega)) (hW 0 j (Or.inl ⟨rfl, hj⟩))).1
  have s1 : sI st' 175 4 = sI st 175 4 := (fr_at hF (Or.inl (by omega)) (hW 175 4 (Or.inr (Or.inl ⟨rfl, rfl⟩)))).1
  refine ⟨by rw [s0 4 (Or.inl rfl), s1]; exact h1, n, by omega, by rw [s0 4 (Or.inl rfl)]; exact h3, ?_⟩
  rcases h4 with h4 | ⟨h4, h5⟩
  · exact Or.inl h4
  · refine Or.inr ⟨Hr_fr hF hN (by omega) (by omega) (fun a j h => hW a j ?_) h4, ?_⟩
    · unfold RHr at h; unfold RIm; omega
    · rw [s0 5 (Or.inr rfl), (fr_at hF (Or.inl (by omega)) (hW 178 96 (by unfold RIm; omega))).1]; exact h5
theorem Zz_fr (hF : Fr W x y st st') (hN : 201 ≤ sN st) (hW : ∀ a j, RZz a j → ¬ W a j) (h : Zz st) : Zz st' := by
  unfold Zz
  rw [(fr_at hF (Or.inl (by omega)) (hW 0 6 (Or.inl ⟨rfl, rfl⟩))).1, (fr_at hF (Or.inl (by omega)) (hW 177 96 (Or.inr ⟨rfl, rfl⟩))).1]
  exact h
theorem Ws_fr (hF : Fr W x y st st') (hN : 201 ≤ sN st) (hW : ∀ a j, a = 181 ∨ 201 ≤ a → ¬ W a j) : ∀ (n : Nat) (w : Option Nat), Ws st n w → Ws st' n w
  | 0, _, h => h
  | n + 1, w, h => by
    obtain ⟨a, h1, h2, h3, h4, h5, h6, h7, h8, h9⟩ := h
    have hN := hF.1
    have ea := hF.2.2.2 a (Or.inl h3)
    have sa : ∀ j, Same st st' a j := fun j => ea.2.2 j (hW a j (Or.inr h2))
    have sp : ∀ j, sI st' 181 j = sI st 181 j := fun j => (fr_at hF (Or.inl (by omega)) (hW 181 j (Or.inl rfl))).1
    refine ⟨a, h1, h2, by omega, h4, by rw [ea.1]; exact h5, fun k hk => by rw [(sa k).1, sp]; exact h6 k hk, by rw [(sa 3).1, sp]; exact h7, by rw [(sa 4).1, sp]; exact h8, ?_⟩
    rw [(sa 5).2.2]
    exact Ws_fr hF (by omega) hW n _ h9
theorem Py_fr (hF : Fr W x y st st') (hN : 201 ≤ sN st) (hW : ∀ a j, RPy a j → ¬ W a j) (h : Py st) : Py st' := by
  obtain ⟨h1, h2⟩ := h
  have s0 : ∀ j, j = 43 ∨ j = 44 ∨ j = 46 ∨ j = 47 → Same st st' 0 j := fun j hj => fr_at hF (Or.inl (by omega)) (hW 0 j (Or.inl ⟨rfl, hj⟩))
  have s1 : ∀ j, j = 5 ∨ j = 6 → sI st' 175 j = sI st 175 j := fun j hj => (fr_at hF (Or.inl (by omega)) (hW 175 j (Or.inr (Or.inl ⟨rfl, hj⟩)))).1
  have s2 : ∀ a j, a = 147 ∨ a = 180 ∨ a = 181 → sI st' a j = sI st a j := fun a j ha => (fr_at hF (Or.inl (by omega)) (hW a j (by unfold RPy; omega))).1
  refine ⟨by rw [(s0 43 (by omega)).1, s1 5 (by omega)]; exact h1, ?_⟩
  rcases h2 with h2 | ⟨h2, n, h3, h4, h5, h6, h7, h8, h9⟩
  · exact Or.inl (by rw [(s0 43 (by omega)).1]; exact h2)
  · refine Or.inr ⟨by rw [(s0 43 (by omega)).1]; exact h2, n, h3, by rw [(s0 44 (by omega)).1]; exact h4, by rw [s1 6 (by omega)]; exact h5, fun k hk => by rw [s2 147 k (by omega), s2 180 k (by omega)]; exact h6 k hk, fun k hk => by rw [s2 147 k (by omega)]; exact h7 k hk, by rw [(s0 46 (by omega)).1, s2 181 _ (by omega)]; exact h8, ?_⟩
    rw [(s0 47 (by omega)).2.2]
    exact Ws_fr hF hN (fun a j h => hW a j (by unfold RPy; omega)) n _ h9
theorem Tp_fr (hF : Fr W x y st st') (hN : 201 ≤ sN st) (hW : ∀ a j, RTp a j → ¬ W a j) (h : Tp st) : Tp st' := by
  obtain ⟨n, h1, h2, h3, h4⟩ := h
  have s : ∀ a j, RTp a j → sI st' a j = sI st a j := fun a j h => (fr_at hF (Or.inl (by unfold RTp at h; omega)) (hW a j h)).1
  refine ⟨n, h1, by rw [s 0 33 (by unfold RTp; omega)]; exact h2, by rw [s 175 10 (by unfold RTp; omega)]; exact h3, fun i hi => ?_⟩
  obtain ⟨g1, bb, g2, g3⟩ := h4 i hi
  exact ⟨by rw [s 146 i (by unfold RTp; omega), s 182 i (by unfold RTp; omega)]; exact g1, bb, g2, by rw [s 182 i (by unfold RTp; omega)]; exact g3⟩
theorem Tx_fr (hF : Fr W x y st st') (hW : ∀ a j, 201 ≤ a → ¬ W a j) {a n : Nat} {f g : Nat → Int32} (hf : ∀ i, i < n → f i = g i) (h : Tx st a n f) : Tx st' a n g := by
  obtain ⟨v, h1, h2, h3, h4, h5, h6, h7⟩ := h
  have hN := hF.1
  have hb : (201 ≤ a) ∧ 201 ≤ v := by unfold gBIG at h7; omega
  have ea := hF.2.2.2 a h5
  have ev := hF.2.2.2 v h6
  have sa : ∀ j, Same st st' a j := fun j => ea.2.2 j (hW a j hb.1)
  have sv : ∀ j, Same st st' v j := fun j => ev.2.2 j (hW v j hb.2)
  refine ⟨v, by rw [(sa 0).2.2]; exact h1, by rw [ev.1]; exact h2, fun i hi => by rw [(sv i).1, h3 i hi]; exact hf i hi, ?_, by omega, by omega, h7⟩
  rcases h4 with ⟨k1, k2, k3⟩ | ⟨k1, k2, k3, k4, k5⟩
  · exact Or.inl ⟨by rw [ea.1]; exact k1, by rw [(sa 1).1]; exact k2, by rw [ev.2.1]; exact k3⟩
  · exact Or.inr ⟨by rw [ea.1]; exact k1, k2, by rw [(sa 1).1]; exact k3, by rw [(sa 3).1]; exact k4, by rw [ev.2.1]; exact k5⟩
theorem Li_fr (hF : Fr W x y st st') (hN : 201 ≤ sN st) (hW : ∀ a j, RLi a j → ¬ W a j) (h : Li st) : Li st' := by
  obtain ⟨a, n, h1, h2, h3, h4, h5⟩ := h
  have sp : ∀ j, sI st' 183 j = sI st 183 j := fun j => (fr_at hF (Or.inl (by omega)) (hW 183 j (by unfold RLi; omega))).1
  refine ⟨a, n, h1, by rw [(fr_at hF (Or.inl (by omega)) (hW 0 42 (Or.inl ⟨rfl, rfl⟩))).2.2]; exact h2, Tx_fr hF (fun a j h => hW a j (by unfold RLi; omega)) (fun i _ => (sp i).symm) h3, by rw [(fr_at hF (Or.inl (by omega)) (hW 175 13 (by unfold RLi; omega))).1]; exact h4, fun i hi => ?_⟩
  obtain ⟨bb, g1, g2⟩ := h5 i hi
  exact ⟨bb, g1, by rw [sp]; exact g2⟩
theorem Sx_fr (hF : Fr W x y st st') (hN : 201 ≤ sN st) (hW : ∀ a j, RSx a j → ¬ W a j) (h : Sx st) : Sx st' := by
  have hN2 := hF.1
  have s : ∀ a j, RSx a j → a < 201 → Same st st' a j := fun a j h h2 => fr_at hF (Or.inl (by omega)) (hW a j h)
  refine ⟨fun k hk => ?_, fun k l v hk hl hne => by rw [(s (170 + k) 0 (by unfold RSx; omega) (by omega)).2.2, (s (170 + l) 0 (by unfold RSx; omega) (by omega)).2.2]; exact h.2 k l v hk hl hne⟩
  rcases h.1 k hk with ⟨h1, h2, h3⟩ | ⟨v, n, h1, h2, h3, h4, h5, h6, h7, h8⟩
  · exact Or.inl ⟨by rw [(s (170 + k) 0 (by unfold RSx; omega) (by omega)).2.2]; exact h1, by rw [(s 186 k (by unfold RSx; omega) (by omega)).1]; exact h2, by rw [(s 187 k (by unfold RSx; omega) (by omega)).1]; exact h3⟩
  · have ev := hF.2.2.2 v (Or.inl h3)
    have sv : ∀ j, Same st st' v j := fun j => ev.2.2 j (hW v j (by unfold RSx; omega))
    refine Or.inr ⟨v, n, by rw [(s (170 + k) 0 (by unfold RSx; omega) (by omega)).2.2]; exact h1, h2, by omega, h4, h5, by rw [ev.2.1]; exact h6, by rw [(s 187 k (by unfold RSx; omega) (by omega)).1]; exact h7, ?_⟩
    have s5 : ∀ j, sL st' 185 j = sL st 185 j := fun j => (s 185 j (by unfold RSx; omega) (by omega)).2.1
    have s6 : sI st' 186 k = sI st 186 k := (s 186 k (by unfold RSx; omega) (by omega)).1
    rcases h8 with ⟨k1, k2, k3⟩ | ⟨k1, k2, k3⟩
    · exact Or.inl ⟨by rw [ev.1]; exact k1, by rw [s6]; exact k2, fun i hi => by rw [(sv i).1, s5]; exact k3 i hi⟩
    · exact Or.inr ⟨by rw [ev.1]; exact k1, by rw [s6]; exact k2, fun i hi => by rw [(sv i).2.1, s5]; exact k3 i hi⟩
theorem Nt_fr (hF : Fr W x y st st') (hN : 201 ≤ sN st) (hW : ∀ a j, RNt a j → ¬ W a j) (h : Nt st) : Nt st' := by
  obtain ⟨h1, h2⟩ := h
  exact ⟨by rw [(fr_at hF (Or.inl (by omega)) (hW 138 0 rfl)).2.1]; exact h1, by rw [(fr_at hF (Or.inl (by omega)) (hW 138 1 rfl)).2.1]; exact h2⟩
theorem CO_fr (hF : Fr W x y st st') (hW : ∀ a j, 201 ≤ a → ¬ W a j) (h : CO st) : CO st' := fun k hk => by
  obtain ⟨h1, h2, h3⟩ := h k hk
  have e := hF.2.2.2 k (Or.inr hk)
  refine ⟨by rw [e.1]; exact h1, by rw [e.2.1]; exact h2, fun j => ?_⟩
  have s := e.2.2 j (hW k j (by unfold gBIG at hk; omega))
  exact ⟨by rw [s.1]; exact (h3 j).1, by rw [s.2.2]; exact (h3 j).2⟩
theorem Rm_fr (hF : Fr W x y st st') (hx : x ≤ 49990) (hy : y ≤ 228000) (h : Rm (b + 1) st) : Rm b st' := by
  obtain ⟨h1, h2, h3⟩ := h
  obtain ⟨f1, f2, f3, -⟩ := hF
  unfold Rm
  omega
/-- all parts at once -/
theorem Inv_fr (hI : Inv (b + 1) st) (hF : Fr W x y st st') (hx : x ≤ 49990) (hy : y ≤ 228000) (hn : ∀ a j, 201 ≤ a → ¬ W a j) : Rm b st' ∧ CO st' ∧ ((∀ a j, REr a j → ¬ W a j) → Er st') ∧ ((∀ a j, RHr 2 177 a j → ¬ W a j) → Hr 2 177 st') ∧ ((∀ a j, RIm a j → ¬ W a j) → Im b st') ∧ ((∀ a j, RZz a j → ¬ W a j) → Zz st') ∧ ((∀ a j, RPy a j → ¬ W a j) → Py st') ∧ ((∀ a j, RTp a j → ¬ W a j) → Tp st') ∧ ((∀ a j, RLi a j → ¬ W a j) → Li st') ∧ ((∀ a j, RSx a j → ¬ W a j) → Sx st') ∧ ((∀ a j, RNt a j → ¬ W a j) → Nt st') := by
  obtain ⟨h1, h2, h3, h4, h5, h6, h7, h8, h9, h10, h11⟩ := hI
  have hN := h1.1
  exact ⟨Rm_fr hF hx hy h1, CO_fr hF hn h2, fun h => Er_fr hF hN h h3, fun h => Hr_fr hF hN (by omega) (by omega) h h4, fun h => Im_fr hF hN h h5, fun h => Zz_fr hF hN h h6, fun h => Py_fr hF hN h h7, fun h => Tp_fr hF hN h h8, fun h => Li_fr hF hN h h9, fun h => Sx_fr hF hN h h10, fun h => Nt_fr hF hN h h11⟩
end FR
