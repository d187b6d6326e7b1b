/-! PLAIN LAW, 14: put, sheet -/
set_option maxRecDepth 100000
/-- all but a sheet's row and the reference's numbers is as it was -/
def Fs (v : Nat) (st st' : St) : Prop := sN st' = sN st ∧ sS st' = sS st ∧ sh st' = sh st ∧ ln st' = ln st ∧ ∀ a j, a ≠ v → a ≠ 185 → Same st st' a j
section FS
variable {st st' : St} {v : Nat}
theorem Tn_fs (hF : Fs v st st') (hv : sh st v = 102 ∨ sh st v = 106) (h2 : 201 ≤ v) {K G q : Nat} (hq : q < 185) : ∀ (n w i d len : Nat), Tn K G q st n w i d len → Tn K G q st' n w i d len
  | 0, _, _, _, _, h => h
  | n + 1, w, i, d, len, h => by
    obtain ⟨f1, f2, f3, f4, f5⟩ := hF
    obtain ⟨h1, h2', h3, h4, h5, h6, ⟨p, p1, p2, p3⟩, ⟨r, r1, r2, r3⟩, h7, u, u1, u2, u3, u4, u5, u6, m, m1, m2, f, g1, g2, g3⟩ := h
    have sw : ∀ j, Same st st' w j := fun j => f5 w j (fun e => by rw [← e, h4] at hv; omega) (by omega)
    have su : ∀ j, Same st st' u j := fun j => f5 u j (fun e => by rw [← e, u5] at hv; omega) (by omega)
    have sq : ∀ j, sI st' q j = sI st q j := fun j => (f5 q j (by omega) (by omega)).1
    refine ⟨h1, by omega, h3, by rw [f3]; exact h4, h5, h6, ⟨p, p1, by rw [(sw 0).1]; exact p2, by rw [sq]; exact p3⟩, ⟨r, r1, by rw [(sw 1).1]; exact r2, by rw [sq]; exact r3⟩, by rw [sq]; exact h7, u, by rw [(sw 2).2.2]; exact u1, u2, by omega, u4, by rw [f3]; exact u5, by rw [f4]; exact u6, m, m1, by rw [(sw 3).1]; exact m2, f, g1, g2, fun k hk => ?_⟩
    obtain ⟨k1, z, k2, k3⟩ := g3 k hk
    exact ⟨k1, z, by rw [(su k).2.2]; exact k2, Tn_fs ⟨f1, f2, f3, f4, f5⟩ hv h2 hq n z _ _ _ k3⟩
theorem Hr_fs (hF : Fs v st st') (hv : sh st v = 102 ∨ sh st v = 106) (h2 : 201 ≤ v) {o q : Nat} (ho : o + 30 < 185) (hq : q < 185) (h : Hr o q st) : Hr o q st' := by
  obtain ⟨K, G, M, N, ⟨r1, r2, r3, r4, r5, r6, r7, r8, ⟨p, r9, r10⟩, r11, r12⟩, ⟨c1, c2, c3, c4⟩, ⟨g1, g2⟩, ht⟩ := h
  have s : ∀ a j, a < 185 → Same st st' a j := fun a j ha => hF.2.2.2.2 a j (by omega) (by omega)
  have sq : ∀ j, sI st' q j = sI st q j := fun j => (s q j hq).1
  have hpt := (pt15 r1 r2).1
  refine ⟨K, G, M, N, ⟨r1, r2, r3, r4, by rw [sq]; exact r5, by rw [sq]; exact r6, by rw [sq]; exact r7, by rw [sq]; exact r8, ⟨p, r9, by rw [sq]; exact r10⟩, fun j h1 h2 => by rw [sq]; exact r11 j h1 h2, fun j h1 h2 => by rw [sq]; exact r12 j h1 h2⟩, ⟨fun j hj => ?_, ?_, fun g r c hg hr hc => ?_, fun k hk => ?_⟩, ⟨?_, fun p k hp hk => ?_⟩, ?_⟩
  · rw [(s o j (by omega)).1, sq]; exact c1 j hj
  · rw [(s o 4 (by omega)).1, sq]; exact c2
  · rw [(s _ c (by omega)).1, sq]; exact c3 g r c hg hr hc
  · rw [(s _ k (by omega)).1, sq]; exact c4 k hk
  · rw [(s o 9 (by omega)).1]; exact g1
  · rw [(s _ k (by omega)).1]; exact g2 p k hp hk
  · rcases ht with ⟨t1, t2⟩ | ⟨w, len, t1, t2, t3, t4, t5⟩
    · exact Or.inl ⟨by rw [(s o 7 (by omega)).2.2]; exact t1, by rw [sq]; exact t2⟩
    · exact Or.inr ⟨w, len, by rw [(s o 7 (by omega)).2.2]; exact t1, t2, t3, by rw [sq]; exact t4, Tn_fs hF hv h2 hq _ _ _ _ _ t5⟩
theorem Ws_fs (hF : Fs v st st') (hv : sh st v = 102 ∨ sh st v = 106) (h2 : 201 ≤ v) : ∀ (n : Nat) (w : Option Nat), Ws st n w → Ws st' n w
  | 0, _, h => h
  | n + 1, w, h => by
    obtain ⟨a, h1, h2', h3, h4, h5, h6, h7, h8, h9⟩ := h
    have sa : ∀ j, Same st st' a j := fun j => hF.2.2.2.2 a j (fun e => by rw [← e, h5] at hv; omega) (by omega)
    have sp : ∀ j, sI st' 181 j = sI st 181 j := fun j => (hF.2.2.2.2 181 j (by omega) (by omega)).1
    refine ⟨a, h1, h2', by rw [hF.1]; exact h3, h4, by rw [hF.2.2.1]; exact h5, fun k hk => by rw [(sa k).1, sp]; exact h6 k hk, by rw [(sa 3).1, sp]; exact h7, by rw [(sa 4).1, sp]; exact h8, ?_⟩
    rw [(sa 5).2.2]
    exact Ws_fs hF hv h2 n _ h9
theorem Inv_put {b : Nat} (hI : Inv (b + 1) st) (hF : Fs v st st') (hv : sh st v = 102 ∨ sh st v = 106) (h2 : 201 ≤ v) (hg : v < gBIG) (hS : Sx st') : Inv b st' := by
  obtain ⟨h1, h2', h3, h4, h5, h6, h7, h8, h9, h10, h11⟩ := hI
  have s : ∀ a j, a < 201 → a ≠ 185 → Same st st' a j := fun a j ha hb => hF.2.2.2.2 a j (by omega) hb
  refine ⟨?_, fun k hk => ?_, fun k hk => ?_, Hr_fs hF hv h2 (by omega) (by omega) h4, ?_, ?_, ?_, ?_, ?_, hS, ?_⟩
  · obtain ⟨k1, k2, k3⟩ := h1
    unfold Rm
    rw [hF.1, hF.2.1]; omega
  · obtain ⟨k1, k2, k3⟩ := h2' k hk
    have sk : ∀ j, Same st st' k j := fun j => hF.2.2.2.2 k j (by omega) (by unfold gBIG at hk; omega)
    exact ⟨by rw [hF.2.2.1]; exact k1, by rw [hF.2.2.2.1]; exact k2, fun j => ⟨by rw [(sk j).1]; exact (k3 j).1, by rw [(sk j).2.2]; exact (k3 j).2⟩⟩
  · rw [(s 1 k (by omega) (by omega)).1, (s 176 k (by omega) (by omega)).1]; exact h3 k hk
  · obtain ⟨k1, n, k2, k3, k4⟩ := h5
    refine ⟨by rw [(s 0 4 (by omega) (by omega)).1, (s 175 4 (by omega) (by omega)).1]; exact k1, n, by omega, by rw [(s 0 4 (by omega) (by omega)).1]; exact k3, ?_⟩
    rcases k4 with k4 | ⟨k4, k5⟩
    · exact Or.inl k4
    · exact Or.inr ⟨Hr_fs hF hv h2 (by omega) (by omega) k4, by rw [(s 0 5 (by omega) (by omega)).1, (s 178 96 (by omega) (by omega)).1]; exact k5⟩
  · unfold Zz
    rw [(s 0 6 (by omega) (by omega)).1, (s 177 96 (by omega) (by omega)).1]; exact h6
  · obtain ⟨k1, k2⟩ := h7
    refine ⟨by rw [(s 0 43 (by omega) (by omega)).1, (s 175 5 (by omega) (by omega)).1]; exact k1, ?_⟩
    rcases k2 with k2 | ⟨k2, n, k3, k4, k5, k6, k7, k8, k9⟩
    · exact Or.inl (by rw [(s 0 43 (by omega) (by omega)).1]; exact k2)
    · refine Or.inr ⟨by rw [(s 0 43 (by omega) (by omega)).1]; exact k2, n, k3, by rw [(s 0 44 (by omega) (by omega)).1]; exact k4, by rw [(s 175 6 (by omega) (by omega)).1]; exact k5, fun k hk => by rw [(s 147 k (by omega) (by omega)).1, (s 180 k (by omega) (by omega)).1]; exact k6 k hk, fun k hk => by rw [(s 147 k (by omega) (by omega)).1]; exact k7 k hk, by rw [(s 0 46 (by omega) (by omega)).1, (s 181 _ (by omega) (by omega)).1]; exact k8, ?_⟩
      rw [(s 0 47 (by omega) (by omega)).2.2]
      exact Ws_fs hF hv h2 n _ k9
  · obtain ⟨n, k1, k2, k3, k4⟩ := h8
    refine ⟨n, k1, by rw [(s 0 33 (by omega) (by omega)).1]; exact k2, by rw [(s 175 10 (by omega) (by omega)).1]; exact k3, fun i hi => ?_⟩
    obtain ⟨g1, bb, g2, g3⟩ := k4 i hi
    exact ⟨by rw [(s 146 i (by omega) (by omega)).1, (s 182 i (by omega) (by omega)).1]; exact g1, bb, g2, by rw [(s 182 i (by omega) (by omega)).1]; exact g3⟩
  · obtain ⟨a, n, k1, k2, ⟨w, t1, t2, t3, t4, t5, t6, t7⟩, k4, k5⟩ := h9
    have sp : ∀ j, sI st' 183 j = sI st 183 j := fun j => (s 183 j (by omega) (by omega)).1
    have hva : a ≠ v := fun e => by rw [← e] at hv; rcases t4 with ⟨q, -⟩ | ⟨q, -⟩ <;> rw [q] at hv <;> omega
    have hvw : w ≠ v := fun e => by rw [← e, t2] at hv; omega
    have ha5 : a ≠ 185 := by rcases t7 with h | h <;> (try unfold gBIG at h) <;> omega
    have hw5 : w ≠ 185 := by rcases t7 with h | h <;> (try unfold gBIG at h) <;> omega
    have sa : ∀ j, Same st st' a j := fun j => hF.2.2.2.2 a j hva ha5
    have sw : ∀ j, Same st st' w j := fun j => hF.2.2.2.2 w j hvw hw5
    refine ⟨a, n, k1, by rw [(s 0 42 (by omega) (by omega)).2.2]; exact k2, ⟨w, by rw [(sa 0).2.2]; exact t1, by rw [hF.2.2.1]; exact t2, fun i hi => by rw [(sw i).1]; exact (t3 i hi).trans (sp i).symm, ?_, by rw [hF.1]; exact t5, by rw [hF.1]; exact t6, t7⟩, by rw [(s 175 13 (by omega) (by omega)).1]; exact k4, fun i hi => by rw [sp]; exact k5 i hi⟩
    rw [hF.2.2.1, hF.2.2.2.1, (sa 1).1, (sa 3).1]; exact t4
  · exact ⟨by rw [(s 138 0 (by omega) (by omega)).2.1]; exact h11.1, by rw [(s 138 1 (by omega) (by omega)).2.1]; exact h11.2⟩
end FS
theorem i16_rt (x : Int16) : x.toInt32.toInt16 = x := by simp
/-- one number is put: the other sheets and refs stay -/
theorem Sx_put {st st' : St} {k v n i : Nat} (hS : Sx st) (hk : k < 5) (hF : Fs v st st') (a1 : sR st (170 + k) 0 = some v) (a2 : 201 ≤ v) (a5 : n ≤ 60) (hi : i < n) (h5 : ∀ j, j ≠ 60 * k + i → sL st' 185 j = sL st 185 j) (hk' : Sk st' k) : Sx st' := by
  have s : ∀ a j, a < 201 → a ≠ 185 → Same st st' a j := fun a j ha hb => hF.2.2.2.2 a j (by omega) hb
  refine ⟨fun l hl => ?_, fun l m w hl hm hne hw => ?_⟩
  · by_cases e : l = k
    · rw [e]; exact hk'
    · rcases hS.1 l hl with ⟨b1, b2, b3⟩ | ⟨w, m, b1, b2, b3, b4, b5, b6, b7, b8⟩
      · exact Or.inl ⟨by rw [(s (170 + l) 0 (by omega) (by omega)).2.2]; exact b1, by rw [(s 186 l (by omega) (by omega)).1]; exact b2, by rw [(s 187 l (by omega) (by omega)).1]; exact b3⟩
      · have hwv : w ≠ v := fun h => hS.2 k l v hk hl (fun h2 => e h2.symm) a1 (by rw [b1, h])
        have sw : ∀ j, Same st st' w j := fun j => hF.2.2.2.2 w j hwv (by omega)
        refine Or.inr ⟨w, m, by rw [(s (170 + l) 0 (by omega) (by omega)).2.2]; exact b1, b2, by rw [hF.1]; exact b3, b4, b5, by rw [hF.2.2.2.1]; exact b6, by rw [(s 187 l (by omega) (by omega)).1]; exact b7, ?_⟩
        rw [hF.2.2.1, (s 186 l (by omega) (by omega)).1]
        rcases b8 with ⟨c1, c2, c3⟩ | ⟨c1, c2, c3⟩
        · exact Or.inl ⟨c1, c2, fun j hj => by rw [(sw j).1, h5 _ (by omega)]; exact c3 j hj⟩
        · exact Or.inr ⟨c1, c2, fun j hj => by rw [(sw j).2.1, h5 _ (by omega)]; exact c3 j hj⟩
  · rw [(s (170 + l) 0 (by omega) (by omega)).2.2] at hw
    rw [(s (170 + m) 0 (by omega) (by omega)).2.2]
    exact hS.2 l m w hl hm hne hw
theorem m_put {st : St} {k i : Nat} {p3 : Int64} {Φ : St → Int32 → Prop} (hk : k < 5) (hi : i < 60) (hc : inB (Int32.ofNat k).toInt64 0 4 = true) (hl : lostB st k (Int32.ofNat i) = false) (h : Φ (putL st 185 (60 * k + i) (if sI st 186 k = 16 then p3.toInt32.toInt16.toInt32.toInt64 else p3)) 1) : w_X4_put st (Int32.ofNat k) (Int32.ofNat i) p3 Φ := by
  unfold w_X4_put w_X4_put_b58
  have e : 60 * Int32.ofNat k + Int32.ofNat i = Int32.ofNat (60 * k + i) := by simp only [Int32.ofNat_add, Int32.ofNat_mul]; rfl
  rw [pe_X4_isSheet, hc, ib_nz, ib_z]
  refine ⟨fun _ => ?_, fun h => (by cases h)⟩
  rw [pe_X4_isLost hk, hl, ib_z, e, vp_of (by omega), vp_of (by omega), nn_of (by omega), nn_of (by omega)]
  refine ⟨fun _ => ⟨hk, fun hb => ⟨by omega, ?_⟩, fun hb => ⟨by omega, ?_⟩⟩, fun h => absurd rfl h⟩
  · rw [if_neg hb] at h; rintro _ rfl; exact h
  · rw [if_pos hb] at h; rintro _ rfl; exact h
theorem o_put {b : Nat} {st : St} {p1 p2 : Int32} {p3 : Int64} {K E : St → Prop} (hI : Inv (b + 1) st) (hK : ∀ s, Inv b s → K s) : w_X0_put st p1 p2 p3 (fun s r => w_X4_put s p1 p2 p3 (fun s' r' => (r = r' → K s') ∧ (¬ r = r' → E s'))) := by
  obtain ⟨hN, hc1, hc2⟩ := Rm1 hI
  have hS := iSx hI
  unfold w_X0_put
  rw [pe_X0_isSheet]
  refine needI (M := fun s Ψ => w_X4_put s p1 p2 p3 Ψ) hI hK (by decide) (fun hc => ?_) (fun hc s2 f2 Φ h => ?_)
  · obtain ⟨k, k1, rfl⟩ := inB_nat (m := 4) (by omega) rfl hc
    rw [vp_of (by omega), nn_of (by omega)]
    refine ⟨by omega, ?_⟩
    have hlost : lostB st k p2 = true → ∀ st' e, Fr noW 4 229 st st' → sN st ≤ e → sI st' e 6 = 8 → w_X0_answers st' e (fun s r => w_X4_put s (Int32.ofNat k) p2 p3 (fun s' r' => (r = r' → K s') ∧ (¬ r = r' → E s'))) := fun hl st1 e f1 he e1 => errI (M := fun s Ψ => w_X4_put s (Int32.ofNat k) p2 p3 Ψ) hI hK (k := 8) (by decide) f1 he e1 (by omega) (by omega) (fun s2 f2 Φ h => by
      show w_X4_put s2 _ _ _ _
      unfold w_X4_put
      rw [pe_X4_isSheet, hc, ib_nz, ib_z]
      refine ⟨fun _ => ?_, fun h => (by cases h)⟩
      have hl2 : lostB s2 k p2 = true := by unfold lostB at hl ⊢; rw [(q_at f2 hN (by omega) (nQ_Sx (a := 186) (j := k) (by unfold RSx; omega)) (by omega)).1, (q_at f2 hN (by omega) (nQ_Sx (a := 187) (j := k) (by unfold RSx; omega)) (by omega)).1]; exact hl
      rw [pe_X4_isLost (by omega), hl2, ib_z]
      exact ⟨fun h => (by cases h), fun _ => h⟩)
    unfold w_X3_set w_X3_set_b35
    rcases hS.1 k (by omega) with ⟨a1, a2, a3⟩ | ⟨v, n, a1, a2, a3, a4, a5, a6, a7, a8⟩
    · have hl : lostB st k p2 = true := by unfold lostB; rw [a2]; rfl
      refine ⟨Or.inl a1, fun _ => s_junk (A := 1) (B := 8) (by omega) (by omega) (fun st' e f g1 g2 => hlost hl st' e (Fr_mo f (fun _ _ h => h) (by omega) (by omega)) g1 g2), fun r1 hr => ?_, fun r1 hr => ?_⟩ <;> (rw [a1] at hr; cases hr)
    · have hb : sI st 186 k ≠ 0 := by rcases a8 with ⟨-, g, -⟩ | ⟨-, g, -⟩ <;> rw [g] <;> decide
      have hl : lostB st k p2 = !(inB p2.toInt64 0 (Int32.ofNat n - 1).toInt64) := by unfold lostB; rw [a7]; simp only [hb, decide_false, Bool.false_or]
      have hv := inB_vp (p := p2) (n := n) (by omega)
      have h4 : ¬ vp_in p2 n → lostB st k p2 = true := fun hh => by
        rw [hl]
        cases hc : inB p2.toInt64 0 (Int32.ofNat n - 1).toInt64
        · rfl
        · exact absurd (hv.mp hc) hh
      refine ⟨Or.inr ⟨v, a1, a4, by rcases a8 with ⟨g, -⟩ | ⟨g, -⟩ <;> simp [g]⟩, fun hr => (by rw [a1] at hr; cases hr), fun r1 hr hg h106 => ?_, fun r1 hr hg h102 => ?_⟩
      · rw [a1] at hr
        cases hr
        rcases a8 with ⟨g1, g2, g3⟩ | ⟨g1, -⟩
        · rw [a6]
          refine ⟨fun hh => ?_, fun hh => ⟨by omega, s_junk (A := 3) (B := 222) (by omega) (by omega) (hlost (h4 hh))⟩⟩
          have hl3 : lostB st k p2 = false := by rw [hl, hv.mpr hh]; rfl
          obtain ⟨i, rfl, i1, i2⟩ := vp_ex hh
          rw [nn_of i2, i16_rt]
          rintro _ rfl
          show w_X4_put (putI st v i p3.toInt32.toInt16.toInt32) _ _ _ _
          have hl4 : lostB (putI st v i p3.toInt32.toInt16.toInt32) k (Int32.ofNat i) = false := by
            unfold lostB at hl3 ⊢
            rw [gI_pI, if_neg (by omega), gI_pI, if_neg (by omega)]; exact hl3
          refine m_put (by omega) (by omega) hc hl4 ?_
          have e186 : sI (putI st v i p3.toInt32.toInt16.toInt32) 186 k = 16 := by rw [gI_pI, if_neg (by omega)]; exact g2
          rw [if_pos e186]
          refine ⟨fun _ => hK _ ?_, fun h => absurd rfl h⟩
          generalize hx : putL (putI st v i p3.toInt32.toInt16.toInt32) 185 (60 * k + i) p3.toInt32.toInt16.toInt32.toInt64 = sx
          have hF : Fs v st sx := by
            rw [← hx]
            exact ⟨by rw [gN_pL, gN_pI], by rw [gS_pL, gS_pI], by rw [gs_pL, gs_pI], by rw [gl_pL, gl_pI], fun a j h1 h2 => ⟨by rw [gI_pL, gI_pI, if_neg (fun h => h1 h.1)], by rw [gL_pL, if_neg (fun h => h2 h.1), gL_pI], by rw [gR_pL, gR_pI]⟩⟩
          have e5 : ∀ j, sL sx 185 j = if j = 60 * k + i then p3.toInt32.toInt16.toInt32.toInt64 else sL st 185 j := fun j => by
            rw [← hx, gL_pL, gL_pI]
            by_cases e : j = 60 * k + i
            · rw [if_pos ⟨rfl, e⟩, if_pos e]
            · rw [if_neg (fun h => e h.2), if_neg e]
          have ev : ∀ j, sI sx v j = if j = i then p3.toInt32.toInt16.toInt32 else sI st v j := fun j => by
            rw [← hx, gI_pL, gI_pI]
            by_cases e : j = i
            · rw [if_pos ⟨rfl, e⟩, if_pos e]
            · rw [if_neg (fun h => e h.2), if_neg e]
          have s : ∀ a j, a < 201 → a ≠ 185 → Same st sx a j := fun a j ha hb => hF.2.2.2.2 a j (by omega) hb
          refine Inv_put hI hF (Or.inr g1) a2 a4 (Sx_put hS (by omega) hF a1 a2 a5 i1 (fun j hj => by rw [e5, if_neg hj]) (Or.inr ⟨v, n, by rw [(s (170 + k) 0 (by omega) (by omega)).2.2]; exact a1, a2, by rw [hF.1]; exact a3, a4, a5, by rw [hF.2.2.2.1]; exact a6, by rw [(s 187 k (by omega) (by omega)).1]; exact a7, Or.inl ⟨by rw [hF.2.2.1]; exact g1, by rw [(s 186 k (by omega) (by omega)).1]; exact g2, fun j hj => ?_⟩⟩))
          rw [ev, e5]
          by_cases e : j = i
          · rw [if_pos e, if_pos (by omega)]
          · rw [if_neg e, if_neg (by omega)]; exact g3 j hj
        · rw [g1] at h106; cases h106
      · rw [a1] at hr
        cases hr
        rcases a8 with ⟨g1, -⟩ | ⟨g1, g2, g3⟩
        · rw [g1] at h102; cases h102
        · rw [a6]
          refine ⟨fun hh => ?_, fun hh => ⟨by omega, s_junk (A := 3) (B := 222) (by omega) (by omega) (hlost (h4 hh))⟩⟩
          have hl3 : lostB st k p2 = false := by rw [hl, hv.mpr hh]; rfl
          obtain ⟨i, rfl, i1, i2⟩ := vp_ex hh
          rw [nn_of i2]
          rintro _ rfl
          show w_X4_put (putL st v i p3) _ _ _ _
          have hl4 : lostB (putL st v i p3) k (Int32.ofNat i) = false := by
            unfold lostB at hl3 ⊢
            rw [gI_pL, gI_pL]; exact hl3
          refine m_put (by omega) (by omega) hc hl4 ?_
          rw [gI_pL, g2, if_neg (by decide)]
          refine ⟨fun _ => hK _ ?_, fun h => absurd rfl h⟩
          generalize hx : putL (putL st v i p3) 185 (60 * k + i) p3 = sx
          have hF : Fs v st sx := by
            rw [← hx]
            exact ⟨by rw [gN_pL, gN_pL], by rw [gS_pL, gS_pL], by rw [gs_pL, gs_pL], by rw [gl_pL, gl_pL], fun a j h1 h2 => ⟨by rw [gI_pL, gI_pL], by rw [gL_pL, if_neg (fun h => h2 h.1), gL_pL, if_neg (fun h => h1 h.1)], by rw [gR_pL, gR_pL]⟩⟩
          have e5 : ∀ j, sL sx 185 j = if j = 60 * k + i then p3 else sL st 185 j := fun j => by
            rw [← hx, gL_pL, gL_pL]
            by_cases e : j = 60 * k + i
            · rw [if_pos ⟨rfl, e⟩, if_pos e]
            · rw [if_neg (fun h => e h.2), if_neg e, if_neg (by omega)]
          have ev : ∀ j, sL sx v j = if j = i then p3 else sL st v j := fun j => by
            rw [← hx, gL_pL, if_neg (by omega), gL_pL]
            by_cases e : j = i
            · rw [if_pos ⟨rfl, e⟩, if_pos e]
            · rw [if_neg (fun h => e h.2), if_neg e]
          have s : ∀ a j, a < 201 → a ≠ 185 → Same st sx a j := fun a j ha hb => hF.2.2.2.2 a j (by omega) hb
          refine Inv_put hI hF (Or.inl g1) a2 a4 (Sx_put hS (by omega) hF a1 a2 a5 i1 (fun j hj => by rw [e5, if_neg hj]) (Or.inr ⟨v, n, by rw [(s (170 + k) 0 (by omega) (by omega)).2.2]; exact a1, a2, by rw [hF.1]; exact a3, a4, a5, by rw [hF.2.2.2.1]; exact a6, by rw [(s 187 k (by omega) (by omega)).1]; exact a7, Or.inr ⟨by rw [hF.2.2.1]; exact g1, by rw [(s 186 k (by omega) (by omega)).1]; exact g2, fun j hj => ?_⟩⟩))
          rw [ev, e5]
          by_cases e : j = i
          · rw [if_pos e, if_pos (by omega)]
          · rw [if_neg e, if_neg (by omega)]; exact g3 j hj
  · show w_X4_put s2 _ _ _ _
    unfold w_X4_put
    rw [pe_X4_isSheet, hc, ib_nz, ib_z]
    exact ⟨fun h => (by cases h), fun _ => h⟩
/-! sheet -/
theorem need_1 {st : St} {k : Int32} {Φ : St → Prop} {Φw : St → Nat → Prop} (h : Φ st) : w_X0_need st 1 k Φ Φw := s_need (c := true) (fun _ => h) (fun h => by cases h)
def wSh (k a j : Nat) : Prop := (a = 170 + k ∧ j = 0) ∨ (a = 186 ∧ j = k) ∨ (a = 187 ∧ j = k) ∨ (a = 185 ∧ 60 * k ≤ j ∧ j < 60 * k + 60)
theorem s_X4_sheet_l84 {Φ : St → Int32 → Prop} {E : St → Prop} {k : Nat} (hk : k < 5) {s0 : St} (h : ∀ s, Fr (wSh k) 0 0 s0 s → sh s = sh s0 → ln s = ln s0 → (∀ a j, sI s a j = sI s0 a j) → (∀ a j, sR s a j = sR s0 a j) → (∀ a j, a ≠ 185 → sL s a j = sL s0 a j) → (∀ j, j < 60 → sL s 185 (60 * k + j) = 0) → E s) : w_X4_sheet_l84 Φ E gFU s0 (Int32.ofNat k) 0 := by
  refine loop_up (α := St × Int32) (L := fun n a => w_X4_sheet_l84 Φ E n a.1 (Int32.ofNat k) a.2) 60 (fun i a => a.2 = Int32.ofNat i ∧ Fr (wSh k) 0 0 s0 a.1 ∧ sh a.1 = sh s0 ∧ ln a.1 = ln s0 ∧ (∀ c j, sI a.1 c j = sI s0 c j) ∧ (∀ c j, sR a.1 c j = sR s0 c j) ∧ (∀ c j, c ≠ 185 → sL a.1 c j = sL s0 c j) ∧ ∀ j, j < i → sL a.1 185 (60 * k + j) = 0) (fun n i a hi hI k9 => ?_) (fun n a hI => ?_) gFU 0 (s0, 0) (by omega) (gFU_big (by omega)) ⟨rfl, Fr_rf, rfl, rfl, fun _ _ => rfl, fun _ _ => rfl, fun _ _ _ => rfl, fun j hj => absurd hj (by omega)⟩
  · obtain ⟨s, x⟩ := a
    obtain ⟨e, h1, h2, h3, h4, h5, h6, h7⟩ := hI
    dsimp only at e h1 h2 h3 h4 h5 h6 h7
    subst e
    show w_X4_sheet_l84 Φ E (n + 1) s _ _
    rw [w_X4_sheet_l84]
    have e : 60 * Int32.ofNat k + Int32.ofNat i = Int32.ofNat (60 * k + i) := by simp only [Int32.ofNat_add, Int32.ofNat_mul]; rfl
    have e2 : ((60 : Int32) ≤ Int32.ofNat i) = (60 ≤ i) := le_of (m := 60) (by omega) (by omega)
    rw [e, e2, vp_of (by omega), nn_of (by omega)]
    refine ⟨fun h => absurd h (by omega), fun _ => ⟨by omega, ?_⟩⟩
    intro s9 hs9
    refine k9 (s9, _) ?_
    dsimp only
    subst hs9
    refine ⟨succ_of i, Fr_L h1 (Or.inl (Or.inr (Or.inr (Or.inr ⟨rfl, by omega, by omega⟩)))), by rw [gs_pL]; exact h2, by rw [gl_pL]; exact h3, fun c j => by rw [gI_pL]; exact h4 c j, fun c j => by rw [gR_pL]; exact h5 c j, fun c j hc => by rw [gL_pL, if_neg (by omega)]; exact h6 c j hc, fun j hj => ?_⟩
    rw [gL_pL]
    by_cases e9 : j = i
    · rw [if_pos ⟨rfl, by omega⟩]
    · rw [if_neg (by omega)]; exact h7 j (by omega)
  · obtain ⟨s, x⟩ := a
    obtain ⟨e, h1, h2, h3, h4, h5, h6, h7⟩ := hI
    dsimp only at e h1 h2 h3 h4 h5 h6 h7
    subst e
    show w_X4_sheet_l84 Φ E (n + 1) s _ _
    rw [w_X4_sheet_l84]
    exact ⟨fun _ => h s h1 h2 h3 h4 h5 h6 h7, fun h => absurd (Int32.le_refl _) h⟩
theorem m_sheet {s : St} {k : Nat} {bits p3 : Int32} {Φ : St → Int32 → Prop} (hk : k < 5) (hc : inB (Int32.ofNat k).toInt64 0 4 = true) (hb : bits = 0 ∨ bits = 16 ∨ bits = 64) (hbad : bits ≠ 0 → 0 ≤ p3 ∧ p3 ≤ 60) (h : ∀ s', Fr (wSh k) 0 0 s s' → sh s' = sh s → ln s' = ln s → (∀ a j, a ≠ 186 → a ≠ 187 → sI s' a j = sI s a j) → (∀ a j, sR s' a j = sR s a j) → (∀ a j, a ≠ 185 → sL s' a j = sL s a j) → sI s' 186 k = bits → sI s' 187 k = (if bits = 0 then 0 else p3) → (∀ j, j < 60 → sL s' 185 (60 * k + j) = 0) → Φ s' 1) : w_X4_sheet s (Int32.ofNat k) bits p3 Φ := by
  have h80 : ∀ z, z = (if bits = 0 then 0 else p3) → w_X4_sheet_b80 Φ (putI s 186 k bits) (Int32.ofNat k) z (Int32.ofNat k) := by
    intro z hz
    unfold w_X4_sheet_b80
    rw [vp_of (by omega), nn_of (by omega)]
    refine ⟨hk, ?_⟩
    rintro _ rfl
    refine s_X4_sheet_l84 hk (fun s' f1 f2 f3 f4 f5 f6 f7 => ?_)
    unfold w_X4_sheet_b110
    refine h s' ?_ (by rw [f2, gs_pI, gs_pI]) (by rw [f3, gl_pI, gl_pI]) (fun a j h1 h2 => by rw [f4, gI_pI, if_neg (by omega), gI_pI, if_neg (by omega)]) (fun a j => by rw [f5, gR_pI, gR_pI]) (fun a j ha => by rw [f6 a j ha, gL_pI, gL_pI]) (by rw [f4, gI_pI, if_neg (by omega), gI_pI, if_pos ⟨rfl, rfl⟩]) (by rw [f4, gI_pI, if_pos ⟨rfl, rfl⟩, hz]) f7
    exact Fr_tr (x := 0) (y := 0) (Fr_I (Fr_I Fr_rf (Or.inl (Or.inr (Or.inl ⟨rfl, rfl⟩)))) (Or.inl (Or.inr (Or.inr (Or.inl ⟨rfl, rfl⟩))))) f1
  have h59 : w_X4_sheet_b59 Φ s (Int32.ofNat k) bits p3 := by
    unfold w_X4_sheet_b59
    rw [vp_of (by omega), nn_of (by omega)]
    refine ⟨hk, ?_⟩
    rintro _ rfl
    exact ⟨fun hb => h80 _ (by rw [if_neg hb]), fun hb => h80 _ (by rw [if_pos hb])⟩
  have h43 : w_X4_sheet_b43 Φ s (Int32.ofNat k) bits p3 := ⟨fun _ => h59, fun hz => ⟨fun _ => h59, fun h2 => absurd (hbad hz).2 h2⟩⟩
  have h29 : w_X4_sheet_b29 Φ s (Int32.ofNat k) bits p3 := ⟨fun _ => h43, fun hz => ⟨fun _ => h43, fun h2 => absurd (hbad hz).1 h2⟩⟩
  unfold w_X4_sheet
  rw [pe_X4_isSheet, hc, ib_z]
  refine ⟨fun h => (by cases h), fun _ => ⟨fun _ => h29, fun h0 => ⟨fun _ => h29, fun h1 => ⟨fun _ => h29, fun h2 => ?_⟩⟩⟩⟩
  rcases hb with h | h | h
  · exact absurd h h0
  · exact absurd h h1
  · exact absurd h h2
/-- a sheet is laid anew -/
theorem Inv_sheet {b : Nat} {st st' : St} {k x y : Nat} (hI : Inv (b + 1) st) (hk : k < 5) (hF : Fr (wSh k) x y st st') (hx : x ≤ 49990) (hy : y ≤ 228000) (hk' : Sk st' k) (hd : ∀ v, sR st' (170 + k) 0 = some v → sN st ≤ v) : Inv b st' := by
  have hN := hI.1.1
  have hN2 := hF.1
  have hS := iSx hI
  obtain ⟨r1, r2, r3, r4, r5, r6, r7, r8, r9, r10, r11⟩ := Inv_fr hI hF hx hy (fun a j h hw => by unfold wSh at hw; omega)
  have s : ∀ a j, a < 201 → ¬ wSh k a j → Same st st' a j := fun a j h h2 => fr_at hF (Or.inl (by omega)) h2
  refine ⟨r1, r2, r3 (fun a j h hw => by unfold REr at h; unfold wSh at hw; omega), r4 (fun a j h hw => by unfold RHr at h; unfold wSh at hw; omega), r5 (fun a j h hw => by unfold RIm at h; unfold wSh at hw; omega), r6 (fun a j h hw => by unfold RZz at h; unfold wSh at hw; omega), r7 (fun a j h hw => by unfold RPy at h; unfold wSh at hw; omega), r8 (fun a j h hw => by unfold RTp at h; unfold wSh at hw; omega), r9 (fun a j h hw => by unfold RLi at h; unfold wSh at hw; omega), ⟨fun l hl => ?_, fun l m w hl hm hne hw => ?_⟩, r11 (fun a j h hw => by unfold RNt at h; unfold wSh at hw; omega)⟩
  · by_cases e : l = k
    · rw [e]; exact hk'
    · rcases hS.1 l hl with ⟨b1, b2, b3⟩ | ⟨w, m, b1, b2, b3, b4, b5, b6, b7, b8⟩
      · exact Or.inl ⟨by rw [(s (170 + l) 0 (by omega) (by unfold wSh; omega)).2.2]; exact b1, by rw [(s 186 l (by omega) (by unfold wSh; omega)).1]; exact b2, by rw [(s 187 l (by omega) (by unfold wSh; omega)).1]; exact b3⟩
      · have ew := hF.2.2.2 w (Or.inl b3)
        have sw : ∀ j, Same st st' w j := fun j => ew.2.2 j (by unfold wSh; omega)
        refine Or.inr ⟨w, m, by rw [(s (170 + l) 0 (by omega) (by unfold wSh; omega)).2.2]; exact b1, b2, by omega, b4, b5, by rw [ew.2.1]; exact b6, by rw [(s 187 l (by omega) (by unfold wSh; omega)).1]; exact b7, ?_⟩
        rw [ew.1, (s 186 l (by omega) (by unfold wSh; omega)).1]
        rcases b8 with ⟨c1, c2, c3⟩ | ⟨c1, c2, c3⟩
        · exact Or.inl ⟨c1, c2, fun j hj => by rw [(sw j).1, (s 185 _ (by omega) (by unfold wSh; omega)).2.1]; exact c3 j hj⟩
        · exact Or.inr ⟨c1, c2, fun j hj => by rw [(sw j).2.1, (s 185 _ (by omega) (by unfold wSh; omega)).2.1]; exact c3 j hj⟩
  · have old : ∀ l, l < 5 → l ≠ k → ∀ w, sR st' (170 + l) 0 = some w → w < sN st ∧ sR st (170 + l) 0 = some w := fun l hl hlk w hw => by
      rw [(s (170 + l) 0 (by omega) (by unfold wSh; omega)).2.2] at hw
      refine ⟨?_, hw⟩
      rcases hS.1 l hl with ⟨b1, -⟩ | ⟨w', m, b1, b2, b3, -⟩
      · rw [b1] at hw; cases hw
      · rw [b1] at hw; cases hw; exact b3
    intro hw2
    by_cases e : l = k
    · subst e
      have h1 := hd w hw
      have h2 := (old m hm (fun h => hne h.symm) w hw2).1
      omega
    · by_cases e2 : m = k
      · subst e2
        have h1 := hd w hw2
        have h2 := (old l hl e w hw).1
        omega
      · exact hS.2 l m w hl hm hne (old l hl e w hw).2 (old m hm e2 w hw2).2
theorem e_sheet {st : St} {p1 p2 p3 : Int32} {Φ : St → Int32 → Prop} (h : w_X0_sheet_b28 Φ st p1 p2 p3 (ib (inB p1.toInt64 0 4 && decide (p2 = 0 ∨ p2 = 16 ∨ p2 = 64)))) : w_X0_sheet st p1 p2 p3 Φ := by
  unfold w_X0_sheet w_X0_sheet_b23 w_X0_sheet_b27
  rw [pe_X0_isSheet, ib_z]
  revert h
  cases inB p1.toInt64 0 4
  · intro h
    exact ⟨fun _ => h, fun h => absurd rfl h⟩
  · intro h
    refine ⟨fun h => (by cases h), fun _ => ⟨fun e => ?_, fun e0 => ⟨fun e => ?_, fun e1 => ⟨fun e2 => ?_, fun e => ?_⟩⟩⟩⟩
    · rw [decide_eq_true (Or.inl e)] at h; exact h
    · rw [decide_eq_true (Or.inr (Or.inl e))] at h; exact h
    · rw [decide_eq_false (fun q => q.elim e0 (fun q => q.elim e1 e2))] at h; exact h
    · rw [decide_eq_true (Or.inr (Or.inr e))] at h; exact h
theorem o_sheet {b : Nat} {st : St} {p1 p2 p3 : Int32} {K E : St → Prop} (hI : Inv (b + 1) st) (hK : ∀ s, Inv b s → K s) : w_X0_sheet st p1 p2 p3 (fun s r => w_X4_sheet s p1 p2 p3 (fun s' r' => (r = r' → K s') ∧ (¬ r = r' → E s'))) := by
  obtain ⟨hN, hc1, hc2⟩ := Rm1 hI
  refine e_sheet ?_
  unfold w_X0_sheet_b28
  refine needI (M := fun s Ψ => w_X4_sheet s p1 p2 p3 Ψ) hI hK (by decide) (fun hc => ?_) (fun hc s2 f2 Φ h => ?_)
  · have hcc := Bool.and_eq_true_iff.mp hc
    clear hc
    obtain ⟨hc, hb⟩ := hcc
    have hb := of_decide_eq_true hb
    obtain ⟨k, k1, rfl⟩ := inB_nat (m := 4) (by omega) rfl hc
    have h63 : (p2 ≠ 0 → 0 ≤ p3 ∧ p3 ≤ 60) → w_X0_sheet_b63 (fun s r => w_X4_sheet s (Int32.ofNat k) p2 p3 (fun s' r' => (r = r' → K s') ∧ (¬ r = r' → E s'))) st (Int32.ofNat k) p2 p3 1 := fun hbad => by
      unfold w_X0_sheet_b63
      refine need_1 ?_
      rw [vp_of (by omega), nn_of (by omega)]
      refine ⟨by omega, ?_⟩
      have hgb : sN st < gBIG := by unfold gCAP at hc1; unfold gBIG; omega
      have fin : ∀ c, (c = 106 ∧ p2 = 16) ∨ (c = 102 ∧ p2 = 64) → ¬ p3 < 0 ∧ p3.toNatClampNeg * 8 ≤ 536870912 ∧ sN st + 1 ≤ gCAP ∧ sS st + p3.toNatClampNeg ≤ gCAPS ∧ ∀ s9, s9 = mk st c (p3.toNatClampNeg) → ∀ s3, s3 = putR s9 (170 + k) 0 (some (sN st)) → w_X4_sheet s3 (Int32.ofNat k) p2 p3 (fun s' r' => ((1 : Int32) = r' → K s') ∧ (¬ (1 : Int32) = r' → E s')) := fun c hcc => by
        have hp0 : p2 ≠ 0 := by rcases hcc with ⟨-, h⟩ | ⟨-, h⟩ <;> rw [h] <;> decide
        obtain ⟨g1, g2⟩ := hbad hp0
        rw [Int32.le_iff_toInt_le] at g1 g2
        have g1 : 0 ≤ p3.toInt := g1
        have g2 : p3.toInt ≤ 60 := g2
        obtain ⟨n, rfl, e2, e3⟩ := of_ti g1
        rw [nn_of e3, lt0_32, ti_of e3]
        refine ⟨by omega, by omega, by omega, by omega, ?_⟩
        rintro _ rfl _ rfl
        refine m_sheet (by omega) hc hb hbad (fun s' f1 f2 f3 f4 f5 f6 f7 f8 f9 => ⟨fun _ => hK _ ?_, fun h => absurd rfl h⟩)
        rw [gs_pR] at f2
        rw [gl_pR] at f3
        have f0 : Fr (wSh k) 1 n st (putR (mk st c n) (170 + k) 0 (some (sN st))) := Fr_mo (Fr_R (Fr_mk (W := wSh k) (c := c) (n := n) Fr_rf hgb) (Or.inl (Or.inl ⟨rfl, rfl⟩))) (fun _ _ h => h) (by omega) (by omega)
        have fa := Fr_tr f0 f1
        have er : sR s' (170 + k) 0 = some (sN st) := by rw [f5, gR_pR, if_pos ⟨rfl, rfl⟩]
        have es : sh s' (sN st) = c := by rw [f2, gs_mk, if_pos rfl]
        have el : ln s' (sN st) = n := by rw [f3, gl_mk, if_pos rfl]
        have eI : ∀ i, sI s' (sN st) i = 0 := fun i => by rw [f4 _ _ (by omega) (by omega), gI_pR, gI_mk, if_pos rfl]
        have eL : ∀ i, sL s' (sN st) i = 0 := fun i => by rw [f6 _ _ (by omega), gL_pR, gL_mk, if_pos rfl]
        have eN : sN st < sN s' := by have := f1.1; rw [gN_pR, gN_mk] at this; omega
        rw [if_neg hp0] at f8
        refine Inv_sheet hI (by omega) fa (by omega) (by omega) (Or.inr ⟨sN st, n, er, hN, eN, hgb, by omega, el, f8, ?_⟩) (fun v hv => by rw [er] at hv; cases hv; exact Nat.le_refl _)
        rcases hcc with ⟨rfl, rfl⟩ | ⟨rfl, rfl⟩
        · exact Or.inl ⟨es, f7, fun i hi => by rw [eI, f9 i (by omega)]; rfl⟩
        · exact Or.inr ⟨es, f7, fun i hi => by rw [eL, f9 i (by omega)]⟩
      unfold w_X3_becomes w_X3_becomes_b26
      refine ⟨fun n16 => ⟨fun n64 => ?_, fun e64 => fin 102 (Or.inr ⟨rfl, e64⟩)⟩, fun e16 => fin 106 (Or.inl ⟨rfl, e16⟩)⟩
      rintro _ rfl
      show w_X4_sheet _ _ _ _ _
      have hz : p2 = 0 := by
        rcases hb with h | h | h
        · exact h
        · exact absurd h n16
        · exact absurd h n64
      subst hz
      refine m_sheet (by omega) hc (Or.inl rfl) hbad (fun s' f1 f2 f3 f4 f5 f6 f7 f8 f9 => ⟨fun _ => hK _ ?_, fun h => absurd rfl h⟩)
      have f0 : Fr (wSh k) 0 0 st (putR st (170 + k) 0 none) := Fr_R Fr_rf (Or.inl (Or.inl ⟨rfl, rfl⟩))
      have er : sR s' (170 + k) 0 = none := by rw [f5, gR_pR, if_pos ⟨rfl, rfl⟩]
      exact Inv_sheet hI (by omega) (Fr_tr f0 f1) (by omega) (by omega) (Or.inl ⟨er, f7, f8⟩) (fun v hv => by rw [er] at hv; cases hv)
    have h29 : ∀ s2, p2 ≠ 0 → ∀ Φ : St → Int32 → Prop, w_X4_sheet_b29 Φ s2 (Int32.ofNat k) p2 p3 → w_X4_sheet s2 (Int32.ofNat k) p2 p3 Φ := fun s2 hp0 Φ h29 => by
      unfold w_X4_sheet
      rw [pe_X4_isSheet, hc, ib_z]
      refine ⟨fun h => (by cases h), fun _ => ⟨fun _ => h29, fun h0 => ⟨fun _ => h29, fun h1 => ⟨fun _ => h29, fun h2 => ?_⟩⟩⟩⟩
      rcases hb with h | h | h
      · exact absurd h h0
      · exact absurd h h1
      · exact absurd h h2
    have h58 : (p2 ≠ 0 → 0 ≤ p3) → (p2 = 0 → w_X0_sheet_b58 (fun s r => w_X4_sheet s (Int32.ofNat k) p2 p3 (fun s' r' => (r = r' → K s') ∧ (¬ r = r' → E s'))) st (Int32.ofNat k) p2 p3) ∧ (¬ p2 = 0 → (60 < p3 → w_X0_sheet_b63 (fun s r => w_X4_sheet s (Int32.ofNat k) p2 p3 (fun s' r' => (r = r' → K s') ∧ (¬ r = r' → E s'))) st (Int32.ofNat k) p2 p3 0) ∧ (¬ 60 < p3 → w_X0_sheet_b58 (fun s r => w_X4_sheet s (Int32.ofNat k) p2 p3 (fun s' r' => (r = r' → K s') ∧ (¬ r = r' → E s'))) st (Int32.ofNat k) p2 p3)) := fun hge => by
      refine ⟨fun hz => h63 (fun h => absurd hz h), fun hz => ⟨fun h60 => ?_, fun h60 => h63 (fun _ => ⟨hge hz, Int32.not_lt.mp h60⟩)⟩⟩
      unfold w_X0_sheet_b63
      refine needI (c := false) (M := fun s Ψ => w_X4_sheet s (Int32.ofNat k) p2 p3 Ψ) hI hK (by decide) (fun hc => by cases hc) (fun _ s2 f2 Φ h => ?_)
      refine h29 s2 hz Φ ⟨fun h => absurd h hz, fun _ => ⟨fun _ => ⟨fun h => absurd h hz, fun _ => ⟨fun h2 => absurd h60 (Int32.not_lt.mpr h2), fun _ => h⟩⟩, fun h2 => absurd (hge hz) h2⟩⟩
    have h39 : (p2 ≠ 0 → 0 ≤ p3) → w_X0_sheet_b39 (fun s r => w_X4_sheet s (Int32.ofNat k) p2 p3 (fun s' r' => (r = r' → K s') ∧ (¬ r = r' → E s'))) st (Int32.ofNat k) p2 p3 := fun hge => by
      unfold w_X0_sheet_b39 w_X0_sheet_b44
      exact need_1 (h58 hge)
    refine ⟨fun hz => h39 (fun h => absurd hz h), fun hz => ⟨fun hneg => ?_, fun hneg => h39 (fun _ => Int32.not_lt.mp hneg)⟩⟩
    unfold w_X0_sheet_b44
    refine needI (c := false) (M := fun s Ψ => w_X4_sheet s (Int32.ofNat k) p2 p3 Ψ) hI hK (by decide) (fun hc => by cases hc) (fun _ s2 f2 Φ h => ?_)
    refine h29 s2 hz Φ ⟨fun h => absurd h hz, fun _ => ⟨fun h2 => absurd hneg (Int32.not_lt.mpr h2), fun _ => h⟩⟩
  · show w_X4_sheet s2 _ _ _ _
    unfold w_X4_sheet w_X4_sheet_b23
    rw [pe_X4_isSheet, ib_z]
    refine ⟨fun _ => h, fun hp => ?_⟩
    have hd : ¬ (p2 = 0 ∨ p2 = 16 ∨ p2 = 64) := by
      rcases b_or hc with h | h
      · exact absurd h hp
      · exact of_decide_eq_false h
    exact ⟨fun e => absurd (Or.inl e) hd, fun _ => ⟨fun e => absurd (Or.inr (Or.inl e)) hd, fun _ => ⟨fun e => absurd (Or.inr (Or.inr e)) hd, fun _ => h⟩⟩⟩
