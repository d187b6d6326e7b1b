/-! PLAIN LAW, 22: image, restore -/
set_option maxRecDepth 100000
theorem gI_cp {st : St} {a sp b dp n c k : Nat} : sI (cpI st a sp b dp n) c k = if c = b ∧ dp ≤ k ∧ k < dp + n then sI st a (sp + (k - dp)) else sI st c k := Eq.trans rfl rfl
theorem gL_cp {st : St} {a sp b dp n c k : Nat} : sL (cpI st a sp b dp n) c k = sL st c k := Eq.trans rfl rfl
theorem gR_cp {st : St} {a sp b dp n c k : Nat} : sR (cpI st a sp b dp n) c k = sR st c k := Eq.trans rfl rfl
theorem gN_cp {st : St} {a sp b dp n : Nat} : sN (cpI st a sp b dp n) = sN st := Eq.trans rfl rfl
theorem gS_cp {st : St} {a sp b dp n : Nat} : sS (cpI st a sp b dp n) = sS st := Eq.trans rfl rfl
theorem gs_cp {st : St} {a sp b dp n : Nat} : sh (cpI st a sp b dp n) = sh st := Eq.trans rfl rfl
theorem gl_cp {st : St} {a sp b dp n : Nat} : ln (cpI st a sp b dp n) = ln st := Eq.trans rfl rfl
theorem Fr_cp {st s1 : St} {W : Nat → Nat → Prop} {x y a sp b dp n : Nat} (h : Fr W x y st s1) (hw : ∀ k, dp ≤ k → k < dp + n → W b k) : Fr W x y st (cpI s1 a sp b dp n) := by
  obtain ⟨h1, h2, h3, h4⟩ := h
  refine ⟨by rw [gN_cp]; exact h1, by rw [gN_cp]; exact h2, by rw [gS_cp]; exact h3, fun c hc => ?_⟩
  obtain ⟨e1, e2, e3⟩ := h4 c hc
  refine ⟨by rw [gs_cp]; exact e1, by rw [gl_cp]; exact e2, fun j hj => ?_⟩
  obtain ⟨i1, i2, i3⟩ := e3 j hj
  refine ⟨?_, by rw [gL_cp]; exact i2, by rw [gR_cp]; exact i3⟩
  rw [gI_cp, if_neg]
  · exact i1
  · rintro ⟨rfl, k1, k2⟩
    exact hj (hw j k1 k2)
def wHo (o a _j : Nat) : Prop := o ≤ a ∧ a ≤ o + 30
def Tk (o p K G i : Nat) (st s : St) : Prop := Fr (wHo o) 0 0 st s ∧ Gv o s K G ∧ (∀ j, j < 5 → sI s o j = sI st p j) ∧ sR s o 7 = sR st p 7 ∧ (∀ g r c, g < i → r < 3 → c < 3 → sI s (o + (3 + 4 * g + r)) c = sI st (p + (3 + 4 * g + r)) c) ∧ ∀ k, k < i → sI s (o + 14) k = sI st (p + 14) k
theorem s_takes {o p K G : Nat} {st : St} {Φ : St → Prop} (hN : 201 ≤ sN st) (ho : o + 30 < 201) (hp : p + 30 < 201) (hd : o + 30 < p ∨ p + 30 < o) (hK : K = 2 ∨ K = 3) (hG : 1 ≤ G ∧ G ≤ 4) (h0 : sI st p 0 = Int32.ofNat K) (h1 : sI st p 1 = Int32.ofNat G) (h : ∀ s, Tk o p K G 3 st s → Φ s) : w_X1_takes o p st Φ := by
  have hp15 := pt15 hK hG
  unfold w_X1_takes
  rintro _ rfl _ rfl
  have e1 : sI (putI st o 0 (sI st p 0)) p 1 = sI st p 1 := by rw [gI_pI, if_neg (by omega)]
  rw [e1]
  refine s_points (K := K) (G := G) (by rw [gN_pI, gN_pI]; exact hN) ho hK hG (by rw [gI_pI, if_neg (by omega), gI_pI, if_pos ⟨rfl, rfl⟩]; exact h0) (by rw [gI_pI, if_pos ⟨rfl, rfl⟩]; exact h1) (fun s6 f6 g6 g4 g7 => ?_)
  have f0 : Fr (wHo o) 0 0 st (putI (putI st o 0 (sI st p 0)) o 1 (sI st p 1)) := Fr_I (Fr_I Fr_rf (Or.inl ⟨by omega, by omega⟩)) (Or.inl ⟨by omega, by omega⟩)
  have f6' : Fr (wHo o) 0 0 st s6 := Fr_tr (x := 0) (y := 0) f0 (Fr_mo f6 (fun a j h => by unfold wGv at h; unfold wHo; omega) (Nat.le_refl _) (Nat.le_refl _))
  have a0 : sI s6 o 0 = sI st p 0 := by rw [(fr_at f6 (Or.inl (by rw [gN_pI, gN_pI]; omega)) (by unfold wGv; omega)).1, gI_pI, if_neg (by omega), gI_pI, if_pos ⟨rfl, rfl⟩]
  have a1 : sI s6 o 1 = sI st p 1 := by rw [(fr_at f6 (Or.inl (by rw [gN_pI, gN_pI]; omega)) (by unfold wGv; omega)).1, gI_pI, if_pos ⟨rfl, rfl⟩]
  have ap : ∀ c j, p ≤ c → c ≤ p + 30 → Same st s6 c j := fun c j k1 k2 => fr_at f6' (Or.inl (by omega)) (by unfold wHo; omega)
  rintro _ rfl _ rfl _ rfl _ rfl
  have b2 : sI s6 p 2 = sI st p 2 := (ap p 2 (by omega) (by omega)).1
  have b3 : sI (putI s6 o 2 (sI s6 p 2)) p 3 = sI st p 3 := by rw [gI_pI, if_neg (by omega)]; exact (ap p 3 (by omega) (by omega)).1
  have b4 : sI (putI (putI s6 o 2 (sI s6 p 2)) o 3 (sI (putI s6 o 2 (sI s6 p 2)) p 3)) p 4 = sI st p 4 := by rw [gI_pI, if_neg (by omega), gI_pI, if_neg (by omega)]; exact (ap p 4 (by omega) (by omega)).1
  have b7 : sR (putI (putI (putI s6 o 2 (sI s6 p 2)) o 3 (sI (putI s6 o 2 (sI s6 p 2)) p 3)) o 4 (sI (putI (putI s6 o 2 (sI s6 p 2)) o 3 (sI (putI s6 o 2 (sI s6 p 2)) p 3)) p 4)) p 7 = sR st p 7 := by rw [gR_pI, gR_pI, gR_pI]; exact (ap p 7 (by omega) (by omega)).2.2
  rw [b7, b4, b3, b2]
  have hT0 : Tk o p K G 0 st (putR (putI (putI (putI s6 o 2 (sI st p 2)) o 3 (sI st p 3)) o 4 (sI st p 4)) o 7 (sR st p 7)) := by
    refine ⟨Fr_R (Fr_I (Fr_I (Fr_I f6' (Or.inl ⟨by omega, by omega⟩)) (Or.inl ⟨by omega, by omega⟩)) (Or.inl ⟨by omega, by omega⟩)) (Or.inl ⟨by omega, by omega⟩), ⟨?_, fun q k hq hk => ?_⟩, fun j hj => ?_, by rw [gR_pR, if_pos ⟨rfl, rfl⟩], fun g r c hg => absurd hg (by omega), fun k hk => absurd hk (by omega)⟩
    · rw [gI_pR, gI_pI, if_neg (by omega), gI_pI, if_neg (by omega), gI_pI, if_neg (by omega)]; exact g6.1
    · rw [gI_pR, gI_pI, if_neg (by omega), gI_pI, if_neg (by omega), gI_pI, if_neg (by omega)]; exact g6.2 q k hq hk
    · rw [gI_pR]
      rcases (by omega : j = 0 ∨ j = 1 ∨ j = 2 ∨ j = 3 ∨ j = 4) with rfl | rfl | rfl | rfl | rfl
      · rw [gI_pI, if_neg (by omega), gI_pI, if_neg (by omega), gI_pI, if_neg (by omega)]; exact a0
      · rw [gI_pI, if_neg (by omega), gI_pI, if_neg (by omega), gI_pI, if_neg (by omega)]; exact a1
      · rw [gI_pI, if_neg (by omega), gI_pI, if_neg (by omega), gI_pI, if_pos ⟨rfl, rfl⟩]
      · rw [gI_pI, if_neg (by omega), gI_pI, if_pos ⟨rfl, rfl⟩]
      · rw [gI_pI, if_pos ⟨rfl, rfl⟩]
  generalize putR (putI (putI (putI s6 o 2 (sI st p 2)) o 3 (sI st p 3)) o 4 (sI st p 4)) o 7 (sR st p 7) = s0 at hT0
  clear b7 b4 b3 b2 e1 f0 f6 f6' a0 a1 ap g6 g4 g7
  refine loop_up (α := St × Int32) (L := fun n a => w_X1_takes_l54 o p Φ (fun (s38 : St) => w_X1_takes_b112 o p Φ s38) n a.1 a.2) 3 (fun i a => a.2 = Int32.ofNat i ∧ Tk o p K G i st a.1) (fun n i a hi hI k9 => ?_) (fun n a hI => ?_) gFU 0 (s0, 0) (by omega) (gFU_big (by omega)) ⟨rfl, hT0⟩
  · obtain ⟨s, x⟩ := a
    obtain ⟨e, t1, t2, t3, t4, t5, t6⟩ := hI
    dsimp only at e t1 t2 t3 t4 t5 t6
    subst e
    show w_X1_takes_l54 o p Φ _ (n + 1) s _
    rw [w_X1_takes_l54]
    have e2 : ((3 : Int32) ≤ Int32.ofNat i) = (3 ≤ i) := le_of (m := 3) (by omega) (by omega)
    rw [e2, vp_of (by omega), nn_of (by omega)]
    refine ⟨fun h => absurd h (by omega), fun _ => ⟨hi, ?_⟩⟩
    rintro _ rfl
    have b1 : sI s (p + 14) i = sI st (p + 14) i := (fr_at t1 (Or.inl (by omega)) (by unfold wHo; omega)).1
    rw [b1]
    have hT1 : Tk o p K G i st (putI s (o + 14) i (sI st (p + 14) i)) := ⟨Fr_I t1 (Or.inl ⟨by omega, by omega⟩), ⟨by rw [gI_pI, if_neg (by omega)]; exact t2.1, fun q k hq hk => by rw [gI_pI, if_neg (by omega)]; exact t2.2 q k hq hk⟩, fun j hj => by rw [gI_pI, if_neg (by omega)]; exact t3 j hj, by rw [gR_pI]; exact t4, fun g r c hg hr hc => by rw [gI_pI, if_neg (by omega)]; exact t5 g r c hg hr hc, fun k hk => by rw [gI_pI, if_neg (by omega)]; exact t6 k hk⟩
    have hv : sI (putI s (o + 14) i (sI st (p + 14) i)) (o + 14) i = sI st (p + 14) i := by rw [gI_pI, if_pos ⟨rfl, rfl⟩]
    generalize putI s (o + 14) i (sI st (p + 14) i) = s1 at hT1 hv
    clear t1 t2 t3 t4 t5 t6 b1
    refine loop_up (α := St × Int32) (L := fun m a => w_X1_takes_l73 o p Φ (fun (s37 : St) (x2 : Int32) => w_X1_takes_b106 o p Φ (w_X1_takes_l54 o p Φ (fun (s38 : St) => w_X1_takes_b112 o p Φ s38) n) s37 x2) m a.1 (Int32.ofNat i) a.2) 3 (fun r a => a.2 = Int32.ofNat r ∧ Tk o p K G i st a.1 ∧ sI a.1 (o + 14) i = sI st (p + 14) i ∧ ∀ r' c, r' < r → c < 3 → sI a.1 (o + (3 + 4 * i + r')) c = sI st (p + (3 + 4 * i + r')) c) (fun m r a hr hJ k8 => ?_) (fun m a hJ => ?_) gFU 0 (s1, 0) (by omega) (gFU_big (by omega)) ⟨rfl, hT1, hv, fun r' c hr' => absurd hr' (by omega)⟩
    · obtain ⟨s', y⟩ := a
      obtain ⟨e, ⟨t1, t2, t3, t4, t5, t6⟩, v1, v2⟩ := hJ
      dsimp only at e t1 t2 t3 t4 t5 t6 v1 v2
      subst e
      show w_X1_takes_l73 o p Φ _ (m + 1) s' _ _
      rw [w_X1_takes_l73]
      have e2 : ((3 : Int32) ≤ Int32.ofNat r) = (3 ≤ r) := le_of (m := 3) (by omega) (by omega)
      rw [e2, vp_of (by omega), vp_of (by omega), nn_of (by omega), nn_of (by omega)]
      refine ⟨fun h => absurd h (by omega), fun _ => ⟨hi, hr, by omega, ?_⟩⟩
      intro s9 hs9
      have bp : ∀ j, sI s' (p + (3 + 4 * i + r)) j = sI st (p + (3 + 4 * i + r)) j := fun j => (fr_at t1 (Or.inl (by omega)) (by unfold wHo; omega)).1
      refine k8 (s9, _) ?_
      dsimp only
      subst hs9
      refine ⟨succ_of r, ⟨Fr_cp t1 (fun k _ _ => ⟨by omega, by omega⟩), ⟨by rw [gI_cp, if_neg (by omega)]; exact t2.1, fun q k hq hk => by rw [gI_cp, if_neg (by omega)]; exact t2.2 q k hq hk⟩, fun j hj => by rw [gI_cp, if_neg (by omega)]; exact t3 j hj, by rw [gR_cp]; exact t4, fun g r' c hg hr' hc => by rw [gI_cp, if_neg (by omega)]; exact t5 g r' c hg hr' hc, fun k hk => by rw [gI_cp, if_neg (by omega)]; exact t6 k hk⟩, by rw [gI_cp, if_neg (by omega)]; exact v1, fun r' c hr' hc => ?_⟩
      rw [gI_cp]
      by_cases e : r' = r
      · subst e
        rw [if_pos ⟨rfl, by omega, by omega⟩, Nat.zero_add, Nat.sub_zero]; exact bp c
      · rw [if_neg (by omega)]; exact v2 r' c (by omega) hc
    · obtain ⟨s', y⟩ := a
      obtain ⟨e, ⟨t1, t2, t3, t4, t5, t6⟩, v1, v2⟩ := hJ
      dsimp only at e t1 t2 t3 t4 t5 t6 v1 v2
      subst e
      show w_X1_takes_l73 o p Φ _ (m + 1) s' _ _
      rw [w_X1_takes_l73]
      refine ⟨fun _ => ?_, fun h => absurd (Int32.le_refl _) h⟩
      unfold w_X1_takes_b106
      refine k9 (_, _) ?_
      dsimp only
      refine ⟨succ_of i, t1, t2, t3, t4, fun g r c hg hr hc => ?_, fun k hk => ?_⟩
      · by_cases e : g = i
        · subst e; exact v2 r c hr hc
        · exact t5 g r c (by omega) hr hc
      · by_cases e : k = i
        · subst e; exact v1
        · exact t6 k (by omega)
  · obtain ⟨s, x⟩ := a
    obtain ⟨e, hT⟩ := hI
    dsimp only at e hT
    subst e
    show w_X1_takes_l54 o p Φ _ (n + 1) s _
    rw [w_X1_takes_l54]
    exact ⟨fun _ => h s hT, fun h => absurd (Int32.le_refl _) h⟩
theorem s_move {q1 q2 : Nat} {st : St} {Φ : St → Prop} (hd : q1 ≠ q2) (h : ∀ s, Fr (fun a j => a = q2 ∧ j < 97) 0 0 st s → (∀ j, j < 97 → sI s q2 j = sI st q1 j) → Φ s) : w_X4_move st q1 q2 Φ := by
  unfold w_X4_move
  refine loop_up (α := St × Int32) (L := fun n a => w_X4_move_l2 Φ (fun (s5 : St) => w_X4_move_b20 Φ s5) n a.1 q1 q2 a.2) 97 (fun i a => a.2 = Int32.ofNat i ∧ Fr (fun a j => a = q2 ∧ j < 97) 0 0 st a.1 ∧ (∀ j, sI a.1 q1 j = sI st q1 j) ∧ ∀ j, j < i → sI a.1 q2 j = sI st q1 j) (fun n i a hi hI k9 => ?_) (fun n a hI => ?_) gFU 0 (st, 0) (by omega) (gFU_big (by omega)) ⟨rfl, Fr_rf, fun _ => rfl, fun j hj => absurd hj (by omega)⟩
  · obtain ⟨s, x⟩ := a
    obtain ⟨e, h1, h2, h3⟩ := hI
    dsimp only at e h1 h2 h3
    subst e
    show w_X4_move_l2 Φ _ (n + 1) s _ _ _
    rw [w_X4_move_l2]
    have e2 : ((97 : Int32) ≤ Int32.ofNat i) = (97 ≤ i) := le_of (m := 97) (by omega) (by omega)
    rw [e2, vp_of (by omega), nn_of (by omega)]
    refine ⟨fun h => absurd h (by omega), fun _ => ⟨hi, ?_⟩⟩
    intro s9 hs9
    refine k9 (s9, _) ?_
    dsimp only
    subst hs9
    refine ⟨succ_of i, Fr_I h1 (Or.inl ⟨rfl, hi⟩), fun j => by rw [gI_pI, if_neg (fun h => hd h.1)]; exact h2 j, fun j hj => ?_⟩
    rw [gI_pI]
    by_cases e9 : j = i
    · rw [if_pos ⟨rfl, e9⟩, h2, e9]
    · rw [if_neg (fun h => e9 h.2)]; exact h3 j (by omega)
  · obtain ⟨s, x⟩ := a
    obtain ⟨e, h1, h2, h3⟩ := hI
    dsimp only at e h1 h2 h3
    subst e
    show w_X4_move_l2 Φ _ (n + 1) s _ _ _
    rw [w_X4_move_l2]
    exact ⟨fun _ => h s h1 h3, fun h => absurd (Int32.le_refl _) h⟩
theorem Tn_mv {st st' : St} {W : Nat → Nat → Prop} {x y K G q q' : Nat} (hF : Fr W x y st st') (hq : ∀ j, 35 ≤ j → j < 96 → sI st' q' j = sI st q j) (hW : ∀ a j, 201 ≤ a → ¬ W a j) : ∀ (n v i d len : Nat), Tn K G q st n v i d len → Tn K G q' st' n v i d len
  | 0, _, _, _, _, h => h
  | n + 1, v, i, d, len, h => by
    obtain ⟨h1, h2, h3, h4, h5, h6, ⟨p, p1, p2, p3⟩, ⟨r, r1, r2, r3⟩, h7, u, u1, u2, u3, u4, u5, u6, m, m1, m2, f, f1, f2, f3⟩ := h
    have hN := hF.1
    have ev := hF.2.2.2 v (Or.inl h2)
    have eu := hF.2.2.2 u (Or.inl u3)
    have sv : ∀ j, Same st st' v j := fun j => ev.2.2 j (hW v j h1)
    have su : ∀ j, Same st st' u j := fun j => eu.2.2 j (hW u j u2)
    refine ⟨h1, by omega, h3, by rw [ev.1]; exact h4, h5, h6, ⟨p, p1, by rw [(sv 0).1]; exact p2, by rw [hq _ (by omega) (by omega)]; exact p3⟩, ⟨r, r1, by rw [(sv 1).1]; exact r2, by rw [hq _ (by omega) (by omega)]; exact r3⟩, by rw [hq _ (by omega) (by omega)]; exact h7, u, by rw [(sv 2).2.2]; exact u1, u2, by omega, u4, by rw [eu.1]; exact u5, by rw [eu.2.1]; exact u6, m, m1, by rw [(sv 3).1]; exact m2, f, f1, f2, fun k hk => ?_⟩
    obtain ⟨g1, w, g2, g3⟩ := f3 k hk
    exact ⟨g1, w, by rw [(su k).2.2]; exact g2, Tn_mv hF hq hW n w _ _ _ g3⟩
/-- a house is the copy of another -/
theorem Hr_mv {st st' : St} {W : Nat → Nat → Prop} {x y K G M N o q o' q' : Nat} (hF : Fr W x y st st') (hW : ∀ a j, 201 ≤ a → ¬ W a j) (hR : Rg q st K G M N) (hH : Hc o q st) (hT : Tr o q st K G) (hq : ∀ j, j < 96 → sI st' q' j = sI st q j) (e5 : ∀ j, j < 5 → sI st' o' j = sI st o j) (e7 : sR st' o' 7 = sR st o 7) (eg : ∀ g r c, g < 3 → r < 3 → c < 3 → sI st' (o' + (3 + 4 * g + r)) c = sI st (o + (3 + 4 * g + r)) c) (et : ∀ k, k < 3 → sI st' (o' + 14) k = sI st (o + 14) k) (hGv : Gv o' st' K G) : Hr o' q' st' := by
  obtain ⟨q1, q2, q3, q4, q5, q6, q7, q8, ⟨p, q9, q10⟩, q11, q12⟩ := hR
  obtain ⟨c1, c2, c3, c4⟩ := hH
  refine ⟨K, G, M, N, ⟨q1, q2, q3, q4, by rw [hq _ (by omega)]; exact q5, by rw [hq _ (by omega)]; exact q6, by rw [hq _ (by omega)]; exact q7, by rw [hq _ (by omega)]; exact q8, ⟨p, q9, by rw [hq _ (by omega)]; exact q10⟩, fun j u1 u2 => by rw [hq _ (by omega)]; exact q11 j u1 u2, fun j u1 u2 => by rw [hq _ (by omega)]; exact q12 j u1 u2⟩, ⟨fun j hj => by rw [hq _ (by omega), e5 _ (by omega)]; exact c1 j hj, by rw [hq _ (by omega), e5 _ (by omega)]; exact c2, fun g r c hg hr hc => by rw [hq _ (by omega), eg g r c hg hr hc]; exact c3 g r c hg hr hc, fun k hk => by rw [hq _ (by omega), et k hk]; exact c4 k hk⟩, hGv, ?_⟩
  rcases hT with ⟨t1, t2⟩ | ⟨v, len, t1, t2, t3, t4, t5⟩
  · exact Or.inl ⟨by rw [e7]; exact t1, by rw [hq _ (by omega)]; exact t2⟩
  · exact Or.inr ⟨v, len, by rw [e7]; exact t1, t2, t3, by rw [hq _ (by omega)]; exact t4, Tn_mv hF (fun j _ h2 => hq j h2) hW _ _ _ _ _ t5⟩
def wIg (a j : Nat) : Prop := wHo 33 a j ∨ (a = 0 ∧ (j = 4 ∨ j = 5)) ∨ (a = 178 ∧ j < 97) ∨ (a = 175 ∧ j = 4)
theorem o_image {b : Nat} {st : St} {K E : St → Prop} (hI : Inv (b + 1) st) (hK : ∀ s, Inv b s → K s) : w_X0_image st (fun s r => w_X4_image s (fun s' r' => (r = r' → K s') ∧ (¬ r = r' → E s'))) := by
  obtain ⟨hN, hc1, hc2⟩ := Rm1 hI
  obtain ⟨K', G, M, N, hR, hH, hGv, hT⟩ := iHr hI
  obtain ⟨i1, n, i2, i3, i4⟩ := iIm hI
  obtain ⟨q1, q2, q3, q4, q5, q6, q7, q8, ⟨p, q9, q10⟩, q11, q12⟩ := hR
  have z6 : sI st 0 6 = sI st 177 96 := iZz hI
  unfold w_X0_image
  refine s_takes (K := K') (G := G) hN (by omega) (by omega) (by omega) q1 q2 ((hH.1 0 (by omega)).trans q5) ((hH.1 1 (by omega)).trans q6) (fun s2 ⟨f2, t2, t3, t4, t5, t6⟩ => ?_)
  rintro _ rfl _ rfl
  have u : ∀ a j, a < 201 → ¬ (33 ≤ a ∧ a ≤ 63) → Same st s2 a j := fun a j ha h => fr_at f2 (Or.inl (by omega)) (by unfold wHo; omega)
  have e4 : sI (putI s2 0 5 (sI s2 0 6)) 0 4 = Int32.ofNat n := by rw [gI_pI, if_neg (by omega), (u 0 4 (by omega) (by omega)).1]; exact i3
  have e6 : sI s2 0 6 = sI st 177 96 := (u 0 6 (by omega) (by omega)).1.trans z6
  rw [e4, e6, succ_of, gI_pI, if_pos ⟨rfl, rfl⟩]
  generalize hx : putI (putI s2 0 5 (sI st 177 96)) 0 4 (Int32.ofNat (n + 1)) = sx
  have fx : Fr wIg 0 0 st sx := by
    rw [← hx]
    exact Fr_I (Fr_I (Fr_mo (V := wIg) f2 (fun _ _ h => Or.inl h) (Nat.le_refl _) (Nat.le_refl _)) (Or.inl (Or.inr (Or.inl ⟨rfl, by omega⟩)))) (Or.inl (Or.inr (Or.inl ⟨rfl, by omega⟩)))
  have x4 : sI sx 0 4 = Int32.ofNat (n + 1) := by rw [← hx, gI_pI, if_pos ⟨rfl, rfl⟩]
  have x5 : sI sx 0 5 = sI st 177 96 := by rw [← hx, gI_pI, if_neg (by omega), gI_pI, if_pos ⟨rfl, rfl⟩]
  have xo : ∀ a j, a ≠ 0 → Same s2 sx a j := fun a j ha => by
    rw [← hx]
    exact ⟨by rw [gI_pI, if_neg (by omega), gI_pI, if_neg (by omega)], by rw [gL_pI, gL_pI], by rw [gR_pI, gR_pI]⟩
  clear hx
  show w_X4_image sx _
  unfold w_X4_image
  refine s_move (by omega) (fun s3 f3 v3 => ?_)
  rintro _ rfl
  have hNx : 201 ≤ sN sx := Nat.le_trans hN fx.1
  have t : ∀ a j, a < 201 → a ≠ 178 → Same sx s3 a j := fun a j ha h => fr_at f3 (Or.inl (by omega)) (fun h2 => h h2.1)
  have m4 : sI s3 175 4 = Int32.ofNat n := by rw [(t 175 4 (by omega) (by omega)).1, (xo 175 4 (by omega)).1, (u 175 4 (by omega) (by omega)).1, ← i1]; exact i3
  rw [m4, succ_of, gI_pI, if_pos ⟨rfl, rfl⟩]
  refine ⟨fun _ => hK _ ?_, fun h => absurd rfl h⟩
  generalize hy : putI s3 175 4 (Int32.ofNat (n + 1)) = sy
  have fa : Fr wIg 0 0 st sy := by
    rw [← hy]
    exact Fr_I (Fr_tr (x := 0) (y := 0) fx (Fr_mo f3 (fun _ _ h => Or.inr (Or.inr (Or.inl h))) (Nat.le_refl _) (Nat.le_refl _))) (Or.inl (Or.inr (Or.inr (Or.inr ⟨rfl, rfl⟩))))
  have y4 : sI sy 175 4 = Int32.ofNat (n + 1) := by rw [← hy, gI_pI, if_pos ⟨rfl, rfl⟩]
  have yo : ∀ a j, a ≠ 175 → Same s3 sy a j := fun a j ha => by
    rw [← hy]
    exact ⟨by rw [gI_pI, if_neg (by omega)], by rw [gL_pI], by rw [gR_pI]⟩
  clear hy
  have w : ∀ a j, 33 ≤ a → a ≤ 63 → Same s2 sy a j := fun a j h1 h2 => by
    obtain ⟨k1, k2, k3⟩ := xo a j (by omega)
    obtain ⟨l1, l2, l3⟩ := t a j (by omega) (by omega)
    obtain ⟨o1, o2, o3⟩ := yo a j (by omega)
    exact ⟨o1.trans (l1.trans k1), o2.trans (l2.trans k2), o3.trans (l3.trans k3)⟩
  have nW : ∀ a j, wIg a j → (33 ≤ a ∧ a ≤ 63) ∨ (a = 0 ∧ (j = 4 ∨ j = 5)) ∨ (a = 178 ∧ j < 97) ∨ (a = 175 ∧ j = 4) := fun a j h => by unfold wIg wHo at h; omega
  have h178 : ∀ j, j < 97 → sI sy 178 j = sI st 177 j := fun j hj => by
    rw [(yo 178 j (by omega)).1, v3 j hj, (xo 177 j (by omega)).1, (u 177 j (by omega) (by omega)).1]
  obtain ⟨r1, r2, r3, r4, r5, r6, r7, r8, r9, r10, r11⟩ := Inv_fr hI fa (by omega) (by omega) (fun a j h hw => by have := nW a j hw; omega)
  have hp15 := pt15 q1 q2
  refine ⟨r1, r2, r3 (fun a j h hw => by have := nW a j hw; unfold REr at h; omega), r4 (fun a j h hw => by have := nW a j hw; unfold RHr at h; omega), ⟨?_, n + 1, by omega, ?_, Or.inr ⟨?_, ?_⟩⟩, r6 (fun a j h hw => by have := nW a j hw; unfold RZz at h; omega), r7 (fun a j h hw => by have := nW a j hw; unfold RPy at h; omega), r8 (fun a j h hw => by have := nW a j hw; unfold RTp at h; omega), r9 (fun a j h hw => by have := nW a j hw; unfold RLi at h; omega), r10 (fun a j h hw => by have := nW a j hw; unfold RSx at h; omega), r11 (fun a j h hw => by have := nW a j hw; unfold RNt at h; omega)⟩
  · rw [y4, (yo 0 4 (by omega)).1, (t 0 4 (by omega) (by omega)).1]; exact x4
  · rw [(yo 0 4 (by omega)).1, (t 0 4 (by omega) (by omega)).1]; exact x4
  · exact Hr_mv fa (fun a j h hw => by have := nW a j hw; omega) ⟨q1, q2, q3, q4, q5, q6, q7, q8, ⟨p, q9, q10⟩, q11, q12⟩ hH hT (fun j hj => h178 j (by omega)) (fun j hj => (w 33 j (by omega) (by omega)).1.trans (t3 j hj)) ((w 33 7 (by omega) (by omega)).2.2.trans t4) (fun g r c hg hr hc => (w _ c (by omega) (by omega)).1.trans (t5 g r c hg hr hc)) (fun k hk => (w _ k (by omega) (by omega)).1.trans (t6 k hk)) ⟨(w 33 9 (by omega) (by omega)).1.trans t2.1, fun q k hq hk => (w _ k (by omega) (by omega)).1.trans (t2.2 q k hq hk)⟩
  · rw [(yo 0 5 (by omega)).1, (t 0 5 (by omega) (by omega)).1, x5, h178 96 (by omega)]
def wRs (a j : Nat) : Prop := wHo 2 a j ∨ (a = 0 ∧ (j = 6 ∨ j = 43)) ∨ (a = 177 ∧ j < 97) ∨ (a = 175 ∧ j = 5)
theorem o_restore {b : Nat} {st : St} {K E : St → Prop} (hI : Inv (b + 1) st) (hK : ∀ s, Inv b s → K s) : w_X0_restore st (fun s r => w_X4_restore s (fun s' r' => (r = r' → K s') ∧ (¬ r = r' → E s'))) := by
  obtain ⟨hN, hc1, hc2⟩ := Rm1 hI
  obtain ⟨i1, n, i2, i3, i4⟩ := iIm hI
  unfold w_X0_restore
  have e0 : (sI st 0 4 ≤ 0) = (n = 0) := by
    rw [i3, show (0 : Int32) = Int32.ofNat 0 from rfl, le_of (by omega) (by omega)]; apply propext; omega
  rw [e0]
  refine ⟨fun hn => ?_, fun hn => ?_⟩
  · unfold w_X0_restore_b12
    refine needI (c := false) (k := 2) (M := fun s Ψ => w_X4_restore s Ψ) hI hK (by decide) (fun h => by cases h) (fun _ s2 f2 Φ h => ?_)
    show w_X4_restore s2 _
    unfold w_X4_restore
    have e4 : sI s2 175 4 = 0 := by rw [(q_at f2 hN (by omega) (nQ_Im (by unfold RIm; omega)) (by omega)).1, ← i1, i3, hn]; rfl
    rw [e4]
    exact ⟨fun h => absurd rfl h, fun _ => h⟩
  · rcases i4 with i4 | ⟨i4, i5⟩
    · exact absurd i4 hn
    obtain ⟨K', G, M, N, hR, hH, hGv, hT⟩ := i4
    obtain ⟨q1, q2, q3, q4, q5, q6, q7, q8, ⟨p, q9, q10⟩, q11, q12⟩ := hR
    unfold w_X0_restore_b12
    refine need_1 ?_
    refine s_takes (K := K') (G := G) hN (by omega) (by omega) (by omega) q1 q2 ((hH.1 0 (by omega)).trans q5) ((hH.1 1 (by omega)).trans q6) (fun s2 ⟨f2, t2, t3, t4, t5, t6⟩ => ?_)
    rintro _ rfl _ rfl
    have u : ∀ a j, a < 201 → ¬ (2 ≤ a ∧ a ≤ 32) → Same st s2 a j := fun a j ha h => fr_at f2 (Or.inl (by omega)) (by unfold wHo; omega)
    have e5 : sI s2 0 5 = sI st 178 96 := (u 0 5 (by omega) (by omega)).1.trans i5
    have ex0 : sI (putI (putI s2 0 6 (sI s2 0 5)) 0 43 0) 2 0 = Int32.ofNat K' := by
      rw [gI_pI, if_neg (by omega), gI_pI, if_neg (by omega), t3 0 (by omega)]; exact (hH.1 0 (by omega)).trans q5
    rw [ex0, e5]
    generalize hx : putI (putI s2 0 6 (sI st 178 96)) 0 43 0 = sx
    have fx : Fr wRs 0 0 st sx := by
      rw [← hx]
      exact Fr_I (Fr_I (Fr_mo (V := wRs) f2 (fun _ _ h => Or.inl h) (Nat.le_refl _) (Nat.le_refl _)) (Or.inl (Or.inr (Or.inl ⟨rfl, by omega⟩)))) (Or.inl (Or.inr (Or.inl ⟨rfl, by omega⟩)))
    have x43 : sI sx 0 43 = 0 := by rw [← hx, gI_pI, if_pos ⟨rfl, rfl⟩]
    have x6 : sI sx 0 6 = sI st 178 96 := by rw [← hx, gI_pI, if_neg (by omega), gI_pI, if_pos ⟨rfl, rfl⟩]
    have xo : ∀ a j, a ≠ 0 → Same s2 sx a j := fun a j ha => by
      rw [← hx]
      exact ⟨by rw [gI_pI, if_neg (by omega), gI_pI, if_neg (by omega)], by rw [gL_pI, gL_pI], by rw [gR_pI, gR_pI]⟩
    clear hx
    show w_X4_restore sx _
    unfold w_X4_restore
    have e4 : sI sx 175 4 = Int32.ofNat n := by rw [(xo 175 4 (by omega)).1, (u 175 4 (by omega) (by omega)).1, ← i1]; exact i3
    rw [e4]
    refine ⟨fun _ => ?_, fun h => absurd h (nz_of (by omega) (by omega))⟩
    refine s_move (by omega) (fun s3 f3 v3 => ?_)
    rintro _ rfl
    have hNx : 201 ≤ sN sx := Nat.le_trans hN fx.1
    have t : ∀ a j, a < 201 → a ≠ 177 → Same sx s3 a j := fun a j ha h => fr_at f3 (Or.inl (by omega)) (fun h2 => h h2.1)
    have h177 : ∀ j, j < 97 → sI s3 177 j = sI st 178 j := fun j hj => by
      rw [v3 j hj, (xo 178 j (by omega)).1, (u 178 j (by omega) (by omega)).1]
    have em0 : sI (putI s3 175 5 0) 177 0 = Int32.ofNat K' := by rw [gI_pI, if_neg (by omega), h177 0 (by omega)]; exact q5
    rw [em0]
    refine ⟨fun _ => hK _ ?_, fun h => absurd rfl h⟩
    generalize hy : putI s3 175 5 0 = sy
    have fa : Fr wRs 0 0 st sy := by
      rw [← hy]
      exact Fr_I (Fr_tr (x := 0) (y := 0) fx (Fr_mo f3 (fun _ _ h => Or.inr (Or.inr (Or.inl h))) (Nat.le_refl _) (Nat.le_refl _))) (Or.inl (Or.inr (Or.inr (Or.inr ⟨rfl, rfl⟩))))
    have y5 : sI sy 175 5 = 0 := by rw [← hy, gI_pI, if_pos ⟨rfl, rfl⟩]
    have yo : ∀ a j, a ≠ 175 → Same s3 sy a j := fun a j ha => by
      rw [← hy]
      exact ⟨by rw [gI_pI, if_neg (by omega)], by rw [gL_pI], by rw [gR_pI]⟩
    clear hy
    have w : ∀ a j, 2 ≤ a → a ≤ 32 → Same s2 sy a j := fun a j h1 h2 => by
      obtain ⟨k1, k2, k3⟩ := xo a j (by omega)
      obtain ⟨l1, l2, l3⟩ := t a j (by omega) (by omega)
      obtain ⟨o1, o2, o3⟩ := yo a j (by omega)
      exact ⟨o1.trans (l1.trans k1), o2.trans (l2.trans k2), o3.trans (l3.trans k3)⟩
    have nW : ∀ a j, wRs a j → (2 ≤ a ∧ a ≤ 32) ∨ (a = 0 ∧ (j = 6 ∨ j = 43)) ∨ (a = 177 ∧ j < 97) ∨ (a = 175 ∧ j = 5) := fun a j h => by unfold wRs wHo at h; omega
    obtain ⟨r1, r2, r3, r4, r5, r6, r7, r8, r9, r10, r11⟩ := Inv_fr hI fa (by omega) (by omega) (fun a j h hw => by have := nW a j hw; omega)
    refine ⟨r1, r2, r3 (fun a j h hw => by have := nW a j hw; unfold REr at h; omega), ?_, r5 (fun a j h hw => by have := nW a j hw; unfold RIm at h; omega), ?_, ⟨?_, Or.inl ?_⟩, r8 (fun a j h hw => by have := nW a j hw; unfold RTp at h; omega), r9 (fun a j h hw => by have := nW a j hw; unfold RLi at h; omega), r10 (fun a j h hw => by have := nW a j hw; unfold RSx at h; omega), r11 (fun a j h hw => by have := nW a j hw; unfold RNt at h; omega)⟩
    · have hp15 := pt15 q1 q2
      exact Hr_mv fa (fun a j h hw => by have := nW a j hw; omega) ⟨q1, q2, q3, q4, q5, q6, q7, q8, ⟨p, q9, q10⟩, q11, q12⟩ hH hT (fun j hj => (yo 177 j (by omega)).1.trans (h177 j (by omega))) (fun j hj => (w 2 j (by omega) (by omega)).1.trans (t3 j hj)) ((w 2 7 (by omega) (by omega)).2.2.trans t4) (fun g r c hg hr hc => (w _ c (by omega) (by omega)).1.trans (t5 g r c hg hr hc)) (fun k hk => (w _ k (by omega) (by omega)).1.trans (t6 k hk)) ⟨(w 2 9 (by omega) (by omega)).1.trans t2.1, fun q k hq hk => (w _ k (by omega) (by omega)).1.trans (t2.2 q k hq hk)⟩
    · show sI sy 0 6 = sI sy 177 96
      rw [(yo 0 6 (by omega)).1, (t 0 6 (by omega) (by omega)).1, x6, (yo 177 96 (by omega)).1, h177 96 (by omega)]
    · rw [y5, (yo 0 43 (by omega)).1, (t 0 43 (by omega) (by omega)).1]; exact x43
    · rw [(yo 0 43 (by omega)).1, (t 0 43 (by omega) (by omega)).1]; exact x43
