/-! the layout of the law's two objects: x at 0, its cells up to 174; the reference at 175, its cells up to 200 -/
def gS : List Nat := [1, 101, 2, 112, 111, 101, 101, 101, 111, 101, 101, 101, 111, 101, 101, 101, 101, 111, 101, 101, 101, 101, 101, 101, 101, 101, 101, 101, 101, 101, 101, 101, 101, 2, 112, 111, 101, 101, 101, 111, 101, 101, 101, 111, 101, 101, 101, 101, 111, 101, 101, 101, 101, 101, 101, 101, 101, 101, 101, 101, 101, 101, 101, 101, 2, 112, 111, 101, 101, 101, 111, 101, 101, 101, 111, 101, 101, 101, 101, 111, 101, 101, 101, 101, 101, 101, 101, 101, 101, 101, 101, 101, 101, 101, 101, 113, 102, 102, 102, 102, 102, 102, 102, 102, 102, 102, 102, 102, 102, 102, 102, 102, 102, 102, 102, 102, 102, 102, 102, 102, 102, 102, 102, 113, 102, 102, 102, 102, 102, 101, 101, 102, 102, 114, 114, 114, 101, 101, 3, 3, 3, 3, 3, 3, 3, 3, 101, 101, 115, 3, 3, 3, 3, 3, 3, 3, 3, 3, 3, 3, 3, 3, 3, 3, 3, 3, 3, 3, 3, 3, 4, 4, 4, 4, 4, 5, 101, 101, 101, 101, 101, 101, 101, 101, 101, 102, 101, 101, 102, 101, 101, 102, 102, 102, 102, 102, 104, 101, 102, 101, 102]
def gL : List Nat := [49, 9, 10, 3, 3, 3, 3, 3, 3, 3, 3, 3, 3, 3, 3, 3, 3, 15, 3, 3, 3, 3, 3, 3, 3, 3, 3, 3, 3, 3, 3, 3, 3, 10, 3, 3, 3, 3, 3, 3, 3, 3, 3, 3, 3, 3, 3, 3, 15, 3, 3, 3, 3, 3, 3, 3, 3, 3, 3, 3, 3, 3, 3, 3, 10, 3, 3, 3, 3, 3, 3, 3, 3, 3, 3, 3, 3, 3, 3, 15, 3, 3, 3, 3, 3, 3, 3, 3, 3, 3, 3, 3, 3, 3, 3, 27, 3, 3, 3, 3, 3, 3, 3, 3, 3, 3, 3, 3, 3, 3, 3, 3, 3, 3, 3, 3, 3, 3, 3, 3, 3, 3, 3, 4, 4, 4, 4, 4, 16, 3, 3, 3, 3, 15, 3, 3, 3, 3, 2, 2, 2, 2, 2, 2, 2, 2, 200, 3, 5, 2, 2, 2, 2, 2, 2, 2, 2, 2, 2, 2, 2, 2, 2, 2, 2, 2, 2, 2, 2, 2, 1, 1, 1, 1, 1, 54, 9, 97, 97, 97, 3, 300, 200, 600, 600, 300, 5, 5, 81, 3, 3, 27, 3, 16, 15, 15, 15, 3, 3, 3, 3]
def gF : List (List (Option Nat)) := [[some 1, some 2, some 33, some 64, none, none, none, some 95, none, none, some 123, some 128, some 129, some 130, some 131, some 132, none, none, some 133, some 134, some 135, some 136, some 137, none, some 138, some 139, some 140, some 141, some 142, some 143, some 144, some 145, some 146, none, none, none, none, none, none, none, none, none, none, none, none, some 147, none, none, some 148], [], [none, none, none, none, none, some 3, some 16, none, some 17], [some 4, some 8, some 12], [some 5, some 6, some 7], [], [], [], [some 9, some 10, some 11], [], [], [], [some 13, some 14, some 15], [], [], [], [], [some 18, some 19, some 20, some 21, some 22, some 23, some 24, some 25, some 26, some 27, some 28, some 29, some 30, some 31, some 32], [], [], [], [], [], [], [], [], [], [], [], [], [], [], [], [none, none, none, none, none, some 34, some 47, none, some 48], [some 35, some 39, some 43], [some 36, some 37, some 38], [], [], [], [some 40, some 41, some 42], [], [], [], [some 44, some 45, some 46], [], [], [], [], [some 49, some 50, some 51, some 52, some 53, some 54, some 55, some 56, some 57, some 58, some 59, some 60, some 61, some 62, some 63], [], [], [], [], [], [], [], [], [], [], [], [], [], [], [], [none, none, none, none, none, some 65, some 78, none, some 79], [some 66, some 70, some 74], [some 67, some 68, some 69], [], [], [], [some 71, some 72, some 73], [], [], [], [some 75, some 76, some 77], [], [], [], [], [some 80, some 81, some 82, some 83, some 84, some 85, some 86, some 87, some 88, some 89, some 90, some 91, some 92, some 93, some 94], [], [], [], [], [], [], [], [], [], [], [], [], [], [], [], [some 96, some 97, some 98, some 99, some 100, some 101, some 102, some 103, some 104, some 105, some 106, some 107, some 108, some 109, some 110, some 111, some 112, some 113, some 114, some 115, some 116, some 117, some 118, some 119, some 120, some 121, some 122], [], [], [], [], [], [], [], [], [], [], [], [], [], [], [], [], [], [], [], [], [], [], [], [], [], [], [], [some 124, some 125, some 126, some 127], [], [], [], [], [], [], [], [], [], [some 149, some 150, some 151, some 152, some 153, some 154, some 155, some 156, some 157, some 158, some 159, some 160, some 161, some 162, some 163], [some 164, some 166, some 168], [some 165, some 167, some 169], [], [], [], [], [], [], [], [], [], [], [], [], [some 170, some 171, some 172, some 173, some 174], [], [], [], [], [], [], [], [], [], [], [], [], [], [], [], [], [], [], [], [], [], [], [], [], [], [], [some 176, some 177, some 178, some 179, none, none, none, some 180, some 181, some 182, none, some 183, some 184, none, none, some 185, some 186, some 187, none, none, none, some 188, none, none, none, some 189, some 190, some 191, some 192, none, none, some 193, some 194, some 195, some 196, some 197, none, some 198, none, some 199, some 200], [], [], [], [], [], [], [], [], [], [], [], [], [], [], [], [], [], [], [], [], [], [], [], [], []]
def gFa (k j : Nat) : Option Nat := ((gF[k]?).getD [])[j]?.getD none
/-- the lasting shapes hold the two objects -/
def LX (θ : Th) : Prop := (∀ k c, gS[k]? = some c → thS θ k = c) ∧ (∀ k n, gL[k]? = some n → thL θ k = n) ∧ (∀ k j a, gFa k j = some a → thF θ k j = some a) ∧ (∀ k, gS[k]? = none → thS θ k = 0) ∧ ∀ k j, gFa k j = none → thF θ k j = none
theorem LX_S {θ : Th} (h : LX θ) {k c : Nat} (e : gS[k]? = some c) : thS θ k = c := h.1 k c e
theorem LX_L {θ : Th} (h : LX θ) {k n : Nat} (e : gL[k]? = some n) : thL θ k = n := h.2.1 k n e
theorem LX_F {θ : Th} (h : LX θ) {k j a : Nat} (e : gFa k j = some a) : thF θ k j = some a := h.2.2.1 k j a e
theorem LX_N {θ : Th} (h : LX θ) {k j : Nat} (e : gFa k j = none) : thF θ k j = none := h.2.2.2.2 k j e
/-- a cell of a shape that no lasting cell has -/
theorem noStat {θ : Th} (h : LX θ) {st : St} (hs : SP θ st) {a c : Nat} (hc : gS.contains c = false) (e : sh st a = c) : thS θ a = 0 := by
  cases hg : gS[a]? with
  | none => exact h.2.2.2.1 a hg
  | some c2 =>
    have h1 := h.1 a c2 hg
    by_cases h0 : thS θ a = 0
    · exact h0
    · have h2 := (hs a h0).2.1
      rw [h1, e] at h2
      have h3 : c ∈ gS := by rw [h2]; exact List.mem_of_getElem? hg
      rw [← List.contains_iff_mem, hc] at h3
      cases h3
def hS : List Nat := [2, 112, 111, 101, 101, 101, 111, 101, 101, 101, 111, 101, 101, 101, 101, 111, 101, 101, 101, 101, 101, 101, 101, 101, 101, 101, 101, 101, 101, 101, 101]
def hL : List Nat := [10, 3, 3, 3, 3, 3, 3, 3, 3, 3, 3, 3, 3, 3, 3, 15, 3, 3, 3, 3, 3, 3, 3, 3, 3, 3, 3, 3, 3, 3, 3]
def hF : List (List (Option Nat)) := [[none, none, none, none, none, some 1, some 14, none, some 15], [some 2, some 6, some 10], [some 3, some 4, some 5], [], [], [], [some 7, some 8, some 9], [], [], [], [some 11, some 12, some 13], [], [], [], [], [some 16, some 17, some 18, some 19, some 20, some 21, some 22, some 23, some 24, some 25, some 26, some 27, some 28, some 29, some 30], [], [], [], [], [], [], [], [], [], [], [], [], [], [], []]
def hFa (k j : Nat) : Option Nat := ((hF[k]?).getD [])[j]?.getD none
/-- a House with its arrays lies at h -/
def LH (θ : Th) (h : Nat) : Prop := (∀ k c, hS[k]? = some c → thS θ (h + k) = c) ∧ (∀ k n, hL[k]? = some n → thL θ (h + k) = n) ∧ (∀ k j a, hFa k j = some a → thF θ (h + k) j = some (h + a)) ∧ thF θ h 7 = none
theorem LH_N {θ : Th} {h : Nat} (H : LH θ h) {k j : Nat} (e : (k, j) = (0, 7)) : thF θ (h + k) j = none := by cases e; exact H.2.2.2
theorem LH_S {θ : Th} {h : Nat} (H : LH θ h) {k c : Nat} (e : hS[k]? = some c) : thS θ (h + k) = c := H.1 k c e
theorem LH_L {θ : Th} {h : Nat} (H : LH θ h) {k n : Nat} (e : hL[k]? = some n) : thL θ (h + k) = n := H.2.1 k n e
theorem LH_F {θ : Th} {h : Nat} (H : LH θ h) {k j a : Nat} (e : hFa k j = some a) : thF θ (h + k) j = some (h + a) := H.2.2.1 k j a e
theorem LH_0 {θ : Th} {h : Nat} (H : LH θ h) : thS θ h = 2 := LH_S H (k := 0) rfl
theorem all_lt {n : Nat} {P : Nat → Prop} [DecidablePred P] (h : (List.range n).all (fun i => decide (P i)) = true) {i : Nat} (hi : i < n) : P i := of_decide_eq_true (List.all_eq_true.mp h i (List.mem_range.mpr hi))
theorem LX_H2 {θ : Th} (h : LX θ) : LH θ 2 := by
  refine ⟨fun k c e => ?_, fun k n e => ?_, fun k j a e => ?_, h.2.2.2.2 2 7 (by decide +kernel)⟩
  · have hk : k < 31 := (List.getElem?_eq_some_iff.mp e).1
    exact h.1 _ _ ((all_lt (n := 31) (P := fun k => gS[2 + k]? = hS[k]?) (by decide +kernel) hk).trans e)
  · have hk : k < 31 := (List.getElem?_eq_some_iff.mp e).1
    exact h.2.1 _ _ ((all_lt (n := 31) (P := fun k => gL[2 + k]? = hL[k]?) (by decide +kernel) hk).trans e)
  · have hk : k < 31 := by
      rcases Nat.lt_or_ge k 31 with q | q
      · exact q
      · have e2 : hF[k]? = none := List.getElem?_eq_none q
        simp [hFa, e2] at e
    have hj : j < 15 := by
      rcases Nat.lt_or_ge j 15 with q | q
      · exact q
      · have e1 : ((hF[k]?).getD []).length ≤ 15 := all_lt (n := 31) (P := fun k => ((hF[k]?).getD []).length ≤ 15) (by decide +kernel) hk
        have e2 : ((hF[k]?).getD [])[j]? = none := List.getElem?_eq_none (by omega)
        simp [hFa, e2] at e
    have e3 := all_lt (n := 31) (P := fun k => (List.range 15).all (fun j => decide (gFa (2 + k) j = (hFa k j).map (2 + ·))) = true) (by decide +kernel) hk
    have e4 := all_lt e3 hj
    exact h.2.2.1 _ _ _ (by rw [e4, e]; rfl)
theorem LX_H33 {θ : Th} (h : LX θ) : LH θ 33 := by
  refine ⟨fun k c e => ?_, fun k n e => ?_, fun k j a e => ?_, h.2.2.2.2 33 7 (by decide +kernel)⟩
  · have hk : k < 31 := (List.getElem?_eq_some_iff.mp e).1
    exact h.1 _ _ ((all_lt (n := 31) (P := fun k => gS[33 + k]? = hS[k]?) (by decide +kernel) hk).trans e)
  · have hk : k < 31 := (List.getElem?_eq_some_iff.mp e).1
    exact h.2.1 _ _ ((all_lt (n := 31) (P := fun k => gL[33 + k]? = hL[k]?) (by decide +kernel) hk).trans e)
  · have hk : k < 31 := by
      rcases Nat.lt_or_ge k 31 with q | q
      · exact q
      · have e2 : hF[k]? = none := List.getElem?_eq_none q
        simp [hFa, e2] at e
    have hj : j < 15 := by
      rcases Nat.lt_or_ge j 15 with q | q
      · exact q
      · have e1 : ((hF[k]?).getD []).length ≤ 15 := all_lt (n := 31) (P := fun k => ((hF[k]?).getD []).length ≤ 15) (by decide +kernel) hk
        have e2 : ((hF[k]?).getD [])[j]? = none := List.getElem?_eq_none (by omega)
        simp [hFa, e2] at e
    have e3 := all_lt (n := 31) (P := fun k => (List.range 15).all (fun j => decide (gFa (33 + k) j = (hFa k j).map (33 + ·))) = true) (by decide +kernel) hk
    have e4 := all_lt e3 hj
    exact h.2.2.1 _ _ _ (by rw [e4, e]; rfl)
theorem LX_H64 {θ : Th} (h : LX θ) : LH θ 64 := by
  refine ⟨fun k c e => ?_, fun k n e => ?_, fun k j a e => ?_, h.2.2.2.2 64 7 (by decide +kernel)⟩
  · have hk : k < 31 := (List.getElem?_eq_some_iff.mp e).1
    exact h.1 _ _ ((all_lt (n := 31) (P := fun k => gS[64 + k]? = hS[k]?) (by decide +kernel) hk).trans e)
  · have hk : k < 31 := (List.getElem?_eq_some_iff.mp e).1
    exact h.2.1 _ _ ((all_lt (n := 31) (P := fun k => gL[64 + k]? = hL[k]?) (by decide +kernel) hk).trans e)
  · have hk : k < 31 := by
      rcases Nat.lt_or_ge k 31 with q | q
      · exact q
      · have e2 : hF[k]? = none := List.getElem?_eq_none q
        simp [hFa, e2] at e
    have hj : j < 15 := by
      rcases Nat.lt_or_ge j 15 with q | q
      · exact q
      · have e1 : ((hF[k]?).getD []).length ≤ 15 := all_lt (n := 31) (P := fun k => ((hF[k]?).getD []).length ≤ 15) (by decide +kernel) hk
        have e2 : ((hF[k]?).getD [])[j]? = none := List.getElem?_eq_none (by omega)
        simp [hFa, e2] at e
    have e3 := all_lt (n := 31) (P := fun k => (List.range 15).all (fun j => decide (gFa (64 + k) j = (hFa k j).map (64 + ·))) = true) (by decide +kernel) hk
    have e4 := all_lt e3 hj
    exact h.2.2.1 _ _ _ (by rw [e4, e]; rfl)
theorem fam_S {l : List Nat} {c b n : Nat} (h : (List.range n).all (fun i => decide (l[b + i]? = some c)) = true) {i : Nat} (hi : i < n) : l[b + i]? = some c := all_lt h hi
theorem LXf_row {θ : Th} (h : LX θ) {i : Nat} (hi : i < 27) : thS θ (96 + i) = 102 ∧ thL θ (96 + i) = 3 ∧ thF θ 95 i = some (96 + i) := ⟨h.1 _ _ (fam_S (n := 27) (by decide +kernel) hi), h.2.1 _ _ (fam_S (n := 27) (by decide +kernel) hi), h.2.2.1 _ _ _ (all_lt (n := 27) (P := fun i => gFa 95 i = some (96 + i)) (by decide +kernel) hi)⟩
theorem LXf_sq {θ : Th} (h : LX θ) {i : Nat} (hi : i < 4) : thS θ (124 + i) = 102 ∧ thL θ (124 + i) = 4 ∧ thF θ 123 i = some (124 + i) := ⟨h.1 _ _ (fam_S (n := 4) (by decide +kernel) hi), h.2.1 _ _ (fam_S (n := 4) (by decide +kernel) hi), h.2.2.1 _ _ _ (all_lt (n := 4) (P := fun i => gFa 123 i = some (124 + i)) (by decide +kernel) hi)⟩
theorem LXf_worth {θ : Th} (h : LX θ) {i : Nat} (hi : i < 15) : thS θ (149 + i) = 3 ∧ thF θ 133 i = some (149 + i) := ⟨h.1 _ _ (fam_S (n := 15) (by decide +kernel) hi), h.2.2.1 _ _ _ (all_lt (n := 15) (P := fun i => gFa 133 i = some (149 + i)) (by decide +kernel) hi)⟩
theorem LXf_weight {θ : Th} (h : LX θ) {i : Nat} (hi : i < 3) : thS θ (164 + 2 * i) = 3 ∧ thF θ 134 i = some (164 + 2 * i) := ⟨h.1 _ _ (all_lt (n := 3) (P := fun i => gS[164 + 2 * i]? = some 3) (by decide +kernel) hi), h.2.2.1 _ _ _ (all_lt (n := 3) (P := fun i => gFa 134 i = some (164 + 2 * i)) (by decide +kernel) hi)⟩
theorem LXf_bestW {θ : Th} (h : LX θ) {i : Nat} (hi : i < 3) : thS θ (165 + 2 * i) = 3 ∧ thF θ 135 i = some (165 + 2 * i) := ⟨h.1 _ _ (all_lt (n := 3) (P := fun i => gS[165 + 2 * i]? = some 3) (by decide +kernel) hi), h.2.2.1 _ _ _ (all_lt (n := 3) (P := fun i => gFa 135 i = some (165 + 2 * i)) (by decide +kernel) hi)⟩
theorem LXf_sheet {θ : Th} (h : LX θ) {i : Nat} (hi : i < 5) : thS θ (170 + i) = 4 ∧ thF θ 148 i = some (170 + i) := ⟨h.1 _ _ (fam_S (n := 5) (by decide +kernel) hi), h.2.2.1 _ _ _ (all_lt (n := 5) (P := fun i => gFa 148 i = some (170 + i)) (by decide +kernel) hi)⟩
theorem LHf_sub {θ : Th} {h : Nat} (H : LH θ h) {i : Nat} (hi : i < 3) : thS θ (h + (2 + 4 * i)) = 111 ∧ thL θ (h + (2 + 4 * i)) = 3 ∧ thF θ (h + 1) i = some (h + (2 + 4 * i)) := ⟨H.1 _ _ (all_lt (n := 3) (P := fun i => hS[2 + 4 * i]? = some 111) (by decide +kernel) hi), H.2.1 _ _ (all_lt (n := 3) (P := fun i => hL[2 + 4 * i]? = some 3) (by decide +kernel) hi), H.2.2.1 _ _ _ (all_lt (n := 3) (P := fun i => hFa 1 i = some (2 + 4 * i)) (by decide +kernel) hi)⟩
theorem LHf_game {θ : Th} {h : Nat} (H : LH θ h) {i j : Nat} (hi : i < 3) (hj : j < 3) : thS θ (h + (3 + 4 * i + j)) = 101 ∧ thL θ (h + (3 + 4 * i + j)) = 3 ∧ thF θ (h + (2 + 4 * i)) j = some (h + (3 + 4 * i + j)) := ⟨H.1 _ _ (all_lt (all_lt (n := 3) (P := fun i => (List.range 3).all (fun j => decide (hS[3 + 4 * i + j]? = some 101)) = true) (by decide +kernel) hi) hj), H.2.1 _ _ (all_lt (all_lt (n := 3) (P := fun i => (List.range 3).all (fun j => decide (hL[3 + 4 * i + j]? = some 3)) = true) (by decide +kernel) hi) hj), H.2.2.1 _ _ _ (all_lt (all_lt (n := 3) (P := fun i => (List.range 3).all (fun j => decide (hFa (2 + 4 * i) j = some (3 + 4 * i + j))) = true) (by decide +kernel) hi) hj)⟩
theorem LHf_give {θ : Th} {h : Nat} (H : LH θ h) {i : Nat} (hi : i < 15) : thS θ (h + (16 + i)) = 101 ∧ thL θ (h + (16 + i)) = 3 ∧ thF θ (h + 15) i = some (h + (16 + i)) := ⟨H.1 _ _ (fam_S (n := 15) (by decide +kernel) hi), H.2.1 _ _ (fam_S (n := 15) (by decide +kernel) hi), H.2.2.1 _ _ _ (all_lt (n := 15) (P := fun i => hFa 15 i = some (16 + i)) (by decide +kernel) hi)⟩
theorem in_lt {i : Int32} {n : Nat} (h : vp_in i n) : i.toNatClampNeg < n := Nat.not_le.mp fun q => h (Or.inr q)
section STATIC
variable {θ : Th} {κ : Kx} {Φ : Ph} {y : MethodName} {cc : ByteArray} {nL : Nat} {ret : Option FieldType} {hh : List (Nat × Nat × Nat × Nat)} {d : Nat} {st : St} {pc : Nat} {lo : List (Nat × Value)} {stk : List Value}
theorem X_nm (k : ∀ st2, st2 = st → X θ κ Φ st2 pc lo stk) : X θ κ Φ st pc lo stk := k st rfl
theorem X_topi {e : Int32} (k : ∀ v : Int32, v = e → X θ κ Φ st pc lo (.int v :: stk)) : X θ κ Φ st pc lo (.int e :: stk) := k e rfl
theorem X_topl {e : Int64} (k : ∀ v : Int64, v = e → X θ κ Φ st pc lo (.long v :: stk)) : X θ κ Φ st pc lo (.long e :: stk) := k e rfl
theorem X_sh {a c : Nat} (hσ : thS θ a = c) (h0 : c ≠ 0) (k : sh st a = c → a < gBIG → X θ κ Φ st pc lo stk) : X θ κ Φ st pc lo stk := X_know fun h => k (sh_static h hσ h0) (lt_static h hσ h0)
theorem X_shl {a c n : Nat} (hσ : thS θ a = c) (h0 : c ≠ 0) (hlen : thL θ a = n) (k : sh st a = c → ln st a = n → a < gBIG → X θ κ Φ st pc lo stk) : X θ κ Φ st pc lo stk := X_know fun h => k (sh_static h hσ h0) (ln_static h hσ h0 hlen) (lt_static h hσ h0)
theorem X_getS (C : Cx θ κ y cc nL ret hh d) {ci j idx : Nat} {q : vw_C} (hc : gcl[ci]? = some q) (hj : j < q.2.2) {ref : String} (hlink : (Cond.fieldLink y.cls idx ref (q.2.1 j).2.1 (q.2.1 j).2.2.1) ∈ lw_all) (hsame : ref = (q.2.1 j).1) (dg : decode cc pc = .ok (.getfield idx, 3)) {a : Nat} (hσ : thS θ a = ci + 1) {v : Value} (hv : sv θ st (gty ci j) a j = v) (k : X θ κ Φ st (pc + 3) lo (v :: stk)) : X θ κ Φ st pc lo (.ref (ad θ a) :: stk) := X_know fun h => X_get C hc hj hlink hsame dg (sh_static h hσ (Nat.succ_ne_zero _)) hv k
theorem X_getF (C : Cx θ κ y cc nL ret hh d) {ci j idx : Nat} {q : vw_C} (hc : gcl[ci]? = some q) (hj : j < q.2.2) {ref : String} (hlink : (Cond.fieldLink y.cls idx ref (q.2.1 j).2.1 (q.2.1 j).2.2.1) ∈ lw_all) (hsame : ref = (q.2.1 j).1) (dg : decode cc pc = .ok (.getfield idx, 3)) {a b : Nat} (hσ : thS θ a = ci + 1) (hF : thF θ a j = some b) (hv : sv θ st (gty ci j) a j = rv θ (sR st a j)) (k : X θ κ Φ st (pc + 3) lo (.ref (ad θ b) :: stk)) : X θ κ Φ st pc lo (.ref (ad θ a) :: stk) := X_know fun h => X_get C hc hj hlink hsame dg (sh_static h hσ (Nat.succ_ne_zero _)) (by rw [hv, rf_static h hσ (Nat.succ_ne_zero _) hF]; rfl) k
theorem X_putSI (C : Cx θ κ y cc nL ret hh d) {ci j idx : Nat} {q : vw_C} (hc : gcl[ci]? = some q) (hj : j < q.2.2) {ref : String} (hlink : (Cond.fieldLink y.cls idx ref (q.2.1 j).2.1 (q.2.1 j).2.2.1) ∈ lw_all) (hsame : ref = (q.2.1 j).1) (hfin : (q.2.1 j).2.2.2 = false) (dg : decode cc pc = .ok (.putfield idx, 3)) {a : Nat} (hσ : thS θ a = ci + 1) {v : Int32} (ht : sv θ (putI st a j v) (gty ci j) a j = .int (sI (putI st a j v) a j)) (hn : narrow (gty ci j) (.int v) = .int v) (hf : fits (gty ci j) (.int v) = true) (k : X θ κ Φ (putI st a j v) (pc + 3) lo stk) : X θ κ Φ st pc lo (.int v :: .ref (ad θ a) :: stk) := X_know fun h => X_put C hc hj hlink hsame hfin dg (lt_static h hσ (Nat.succ_ne_zero _)) (sh_static h hσ (Nat.succ_ne_zero _)) (Put_I (by rw [ht, sI_putI])) hn hf k
theorem X_putSL (C : Cx θ κ y cc nL ret hh d) {ci j idx : Nat} {q : vw_C} (hc : gcl[ci]? = some q) (hj : j < q.2.2) {ref : String} (hlink : (Cond.fieldLink y.cls idx ref (q.2.1 j).2.1 (q.2.1 j).2.2.1) ∈ lw_all) (hsame : ref = (q.2.1 j).1) (hfin : (q.2.1 j).2.2.2 = false) (dg : decode cc pc = .ok (.putfield idx, 3)) {a : Nat} (hσ : thS θ a = ci + 1) {v : Int64} (ht : gty ci j = .long) (k : X θ κ Φ (putL st a j v) (pc + 3) lo stk) : X θ κ Φ st pc lo (.long v :: .ref (ad θ a) :: stk) := X_know fun h => X_put C hc hj hlink hsame hfin dg (lt_static h hσ (Nat.succ_ne_zero _)) (sh_static h hσ (Nat.succ_ne_zero _)) (by rw [ht]; exact Put_L) (by rw [ht]; rfl) (by rw [ht]; rfl) k
theorem X_putSR (C : Cx θ κ y cc nL ret hh d) {ci j idx : Nat} {q : vw_C} (hc : gcl[ci]? = some q) (hj : j < q.2.2) {ref : String} (hlink : (Cond.fieldLink y.cls idx ref (q.2.1 j).2.1 (q.2.1 j).2.2.1) ∈ lw_all) (hsame : ref = (q.2.1 j).1) (hfin : (q.2.1 j).2.2.2 = false) (dg : decode cc pc = .ok (.putfield idx, 3)) {a : Nat} (hσ : thS θ a = ci + 1) {v : Option Nat} (ht : sv θ (putR st a j v) (gty ci j) a j = rv θ (sR (putR st a j v) a j)) (hF : thF θ a j = none) (hn : narrow (gty ci j) (rv θ v) = rv θ v) (hf : fits (gty ci j) (rv θ v) = true) (k : X θ κ Φ (putR st a j v) (pc + 3) lo stk) : X θ κ Φ st pc lo (rv θ v :: .ref (ad θ a) :: stk) := X_know fun h => X_put C hc hj hlink hsame hfin dg (lt_static h hσ (Nat.succ_ne_zero _)) (sh_static h hσ (Nat.succ_ne_zero _)) (Put_R (by rw [ht, sR_putR]) (Or.inr (Or.inl hF))) hn hf k
theorem X_putI (C : Cx θ κ y cc nL ret hh d) {ci j idx : Nat} {q : vw_C} (hc : gcl[ci]? = some q) (hj : j < q.2.2) {ref : String} (hlink : (Cond.fieldLink y.cls idx ref (q.2.1 j).2.1 (q.2.1 j).2.2.1) ∈ lw_all) (hsame : ref = (q.2.1 j).1) (hfin : (q.2.1 j).2.2.2 = false) (dg : decode cc pc = .ok (.putfield idx, 3)) {a : Nat} (ha : a < gBIG) (hsh : sh st a = ci + 1) {v : Int32} (ht : sv θ (putI st a j v) (gty ci j) a j = .int (sI (putI st a j v) a j)) (hn : narrow (gty ci j) (.int v) = .int v) (hf : fits (gty ci j) (.int v) = true) (k : X θ κ Φ (putI st a j v) (pc + 3) lo stk) : X θ κ Φ st pc lo (.int v :: .ref (ad θ a) :: stk) := X_put C hc hj hlink hsame hfin dg ha hsh (Put_I (by rw [ht, sI_putI])) hn hf k
theorem X_putL (C : Cx θ κ y cc nL ret hh d) {ci j idx : Nat} {q : vw_C} (hc : gcl[ci]? = some q) (hj : j < q.2.2) {ref : String} (hlink : (Cond.fieldLink y.cls idx ref (q.2.1 j).2.1 (q.2.1 j).2.2.1) ∈ lw_all) (hsame : ref = (q.2.1 j).1) (hfin : (q.2.1 j).2.2.2 = false) (dg : decode cc pc = .ok (.putfield idx, 3)) {a : Nat} (ha : a < gBIG) (hsh : sh st a = ci + 1) {v : Int64} (ht : gty ci j = .long) (k : X θ κ Φ (putL st a j v) (pc + 3) lo stk) : X θ κ Φ st pc lo (.long v :: .ref (ad θ a) :: stk) := X_put C hc hj hlink hsame hfin dg ha hsh (by rw [ht]; exact Put_L) (by rw [ht]; rfl) (by rw [ht]; rfl) k
theorem X_getNS (C : Cx θ κ y cc nL ret hh d) {ci j idx : Nat} {q : vw_C} (hc : gcl[ci]? = some q) (hj : j < q.2.2) {ref host : String} (hlink : (Cond.fieldLinkNest y.cls idx ref (q.2.1 j).2.1 (q.2.1 j).2.2.1 host) ∈ lw_tbl) (hsame : ref = (q.2.1 j).1) (dg : decode cc pc = .ok (.getfield idx, 3)) {a : Nat} (hσ : thS θ a = ci + 1) {v : Value} (hv : sv θ st (gty ci j) a j = v) (k : X θ κ Φ st (pc + 3) lo (v :: stk)) : X θ κ Φ st pc lo (.ref (ad θ a) :: stk) := X_know fun h => X_getN C hc hj hlink hsame dg (sh_static h hσ (Nat.succ_ne_zero _)) hv k
theorem X_getNF (C : Cx θ κ y cc nL ret hh d) {ci j idx : Nat} {q : vw_C} (hc : gcl[ci]? = some q) (hj : j < q.2.2) {ref host : String} (hlink : (Cond.fieldLinkNest y.cls idx ref (q.2.1 j).2.1 (q.2.1 j).2.2.1 host) ∈ lw_tbl) (hsame : ref = (q.2.1 j).1) (dg : decode cc pc = .ok (.getfield idx, 3)) {a b : Nat} (hσ : thS θ a = ci + 1) (hF : thF θ a j = some b) (hv : sv θ st (gty ci j) a j = rv θ (sR st a j)) (k : X θ κ Φ st (pc + 3) lo (.ref (ad θ b) :: stk)) : X θ κ Φ st pc lo (.ref (ad θ a) :: stk) := X_know fun h => X_getN C hc hj hlink hsame dg (sh_static h hσ (Nat.succ_ne_zero _)) (by rw [hv, rf_static h hσ (Nat.succ_ne_zero _) hF]; rfl) k
theorem X_putNSI (C : Cx θ κ y cc nL ret hh d) {ci j idx : Nat} {q : vw_C} (hc : gcl[ci]? = some q) (hj : j < q.2.2) {ref host : String} (hlink : (Cond.fieldLinkNest y.cls idx ref (q.2.1 j).2.1 (q.2.1 j).2.2.1 host) ∈ lw_tbl) (hsame : ref = (q.2.1 j).1) (hfin : (q.2.1 j).2.2.2 = false) (dg : decode cc pc = .ok (.putfield idx, 3)) {a : Nat} (hσ : thS θ a = ci + 1) {v : Int32} (ht : sv θ (putI st a j v) (gty ci j) a j = .int (sI (putI st a j v) a j)) (hn : narrow (gty ci j) (.int v) = .int v) (hf : fits (gty ci j) (.int v) = true) (k : X θ κ Φ (putI st a j v) (pc + 3) lo stk) : X θ κ Φ st pc lo (.int v :: .ref (ad θ a) :: stk) := X_know fun h => X_putN C hc hj hlink hsame hfin dg (lt_static h hσ (Nat.succ_ne_zero _)) (sh_static h hσ (Nat.succ_ne_zero _)) (Put_I (by rw [ht, sI_putI])) hn hf k
theorem X_putNSL (C : Cx θ κ y cc nL ret hh d) {ci j idx : Nat} {q : vw_C} (hc : gcl[ci]? = some q) (hj : j < q.2.2) {ref host : String} (hlink : (Cond.fieldLinkNest y.cls idx ref (q.2.1 j).2.1 (q.2.1 j).2.2.1 host) ∈ lw_tbl) (hsame : ref = (q.2.1 j).1) (hfin : (q.2.1 j).2.2.2 = false) (dg : decode cc pc = .ok (.putfield idx, 3)) {a : Nat} (hσ : thS θ a = ci + 1) {v : Int64} (ht : gty ci j = .long) (k : X θ κ Φ (putL st a j v) (pc + 3) lo stk) : X θ κ Φ st pc lo (.long v :: .ref (ad θ a) :: stk) := X_know fun h => X_putN C hc hj hlink hsame hfin dg (lt_static h hσ (Nat.succ_ne_zero _)) (sh_static h hσ (Nat.succ_ne_zero _)) (by rw [ht]; exact Put_L) (by rw [ht]; rfl) (by rw [ht]; rfl) k
theorem X_putNSR (C : Cx θ κ y cc nL ret hh d) {ci j idx : Nat} {q : vw_C} (hc : gcl[ci]? = some q) (hj : j < q.2.2) {ref host : String} (hlink : (Cond.fieldLinkNest y.cls idx ref (q.2.1 j).2.1 (q.2.1 j).2.2.1 host) ∈ lw_tbl) (hsame : ref = (q.2.1 j).1) (hfin : (q.2.1 j).2.2.2 = false) (dg : decode cc pc = .ok (.putfield idx, 3)) {a : Nat} (hσ : thS θ a = ci + 1) {v : Option Nat} (ht : sv θ (putR st a j v) (gty ci j) a j = rv θ (sR (putR st a j v) a j)) (hF : thF θ a j = none) (hn : narrow (gty ci j) (rv θ v) = rv θ v) (hf : fits (gty ci j) (rv θ v) = true) (k : X θ κ Φ (putR st a j v) (pc + 3) lo stk) : X θ κ Φ st pc lo (rv θ v :: .ref (ad θ a) :: stk) := X_know fun h => X_putN C hc hj hlink hsame hfin dg (lt_static h hσ (Nat.succ_ne_zero _)) (sh_static h hσ (Nat.succ_ne_zero _)) (Put_R (by rw [ht, sR_putR]) (Or.inr (Or.inl hF))) hn hf k
theorem X_putNI (C : Cx θ κ y cc nL ret hh d) {ci j idx : Nat} {q : vw_C} (hc : gcl[ci]? = some q) (hj : j < q.2.2) {ref host : String} (hlink : (Cond.fieldLinkNest y.cls idx ref (q.2.1 j).2.1 (q.2.1 j).2.2.1 host) ∈ lw_tbl) (hsame : ref = (q.2.1 j).1) (hfin : (q.2.1 j).2.2.2 = false) (dg : decode cc pc = .ok (.putfield idx, 3)) {a : Nat} (ha : a < gBIG) (hsh : sh st a = ci + 1) {v : Int32} (ht : sv θ (putI st a j v) (gty ci j) a j = .int (sI (putI st a j v) a j)) (hn : narrow (gty ci j) (.int v) = .int v) (hf : fits (gty ci j) (.int v) = true) (k : X θ κ Φ (putI st a j v) (pc + 3) lo stk) : X θ κ Φ st pc lo (.int v :: .ref (ad θ a) :: stk) := X_putN C hc hj hlink hsame hfin dg ha hsh (Put_I (by rw [ht, sI_putI])) hn hf k
theorem X_putNL (C : Cx θ κ y cc nL ret hh d) {ci j idx : Nat} {q : vw_C} (hc : gcl[ci]? = some q) (hj : j < q.2.2) {ref host : String} (hlink : (Cond.fieldLinkNest y.cls idx ref (q.2.1 j).2.1 (q.2.1 j).2.2.1 host) ∈ lw_tbl) (hsame : ref = (q.2.1 j).1) (hfin : (q.2.1 j).2.2.2 = false) (dg : decode cc pc = .ok (.putfield idx, 3)) {a : Nat} (ha : a < gBIG) (hsh : sh st a = ci + 1) {v : Int64} (ht : gty ci j = .long) (k : X θ κ Φ (putL st a j v) (pc + 3) lo stk) : X θ κ Φ st pc lo (.long v :: .ref (ad θ a) :: stk) := X_putN C hc hj hlink hsame hfin dg ha hsh (by rw [ht]; exact Put_L) (by rw [ht]; rfl) (by rw [ht]; rfl) k
theorem X_ialdS (C : Cx θ κ y cc nL ret hh d) {a n j : Nat} {i : Int32} (hσ : thS θ a = 101) (hlen : thL θ a = n) (hin : vp_in i n) (hj : i.toNatClampNeg = j) (dg : decode cc pc = .ok (.iaload, 1)) (k : X θ κ Φ st (pc + 1) lo (.int (sI st a j) :: stk)) : X θ κ Φ st pc lo (.int i :: .ref (ad θ a) :: stk) := by
  subst hj
  exact X_know fun h => X_iald C (sh_static h hσ (Nat.succ_ne_zero _)) (by rw [ln_static h hσ (Nat.succ_ne_zero _) hlen]; exact hin) dg k
theorem X_ialdD (C : Cx θ κ y cc nL ret hh d) {a n j : Nat} {i : Int32} (hσ : sh st a = 101) (hlen : ln st a = n) (hin : vp_in i n) (hj : i.toNatClampNeg = j) (dg : decode cc pc = .ok (.iaload, 1)) (k : X θ κ Φ st (pc + 1) lo (.int (sI st a j) :: stk)) : X θ κ Φ st pc lo (.int i :: .ref (ad θ a) :: stk) := by
  subst hj
  exact X_iald C hσ (by rw [hlen]; exact hin) dg k
theorem X_laldS (C : Cx θ κ y cc nL ret hh d) {a n j : Nat} {i : Int32} (hσ : thS θ a = 102) (hlen : thL θ a = n) (hin : vp_in i n) (hj : i.toNatClampNeg = j) (dg : decode cc pc = .ok (.laload, 1)) (k : X θ κ Φ st (pc + 1) lo (.long (sL st a j) :: stk)) : X θ κ Φ st pc lo (.int i :: .ref (ad θ a) :: stk) := by
  subst hj
  exact X_know fun h => X_lald C (sh_static h hσ (Nat.succ_ne_zero _)) (by rw [ln_static h hσ (Nat.succ_ne_zero _) hlen]; exact hin) dg k
theorem X_laldD (C : Cx θ κ y cc nL ret hh d) {a n j : Nat} {i : Int32} (hσ : sh st a = 102) (hlen : ln st a = n) (hin : vp_in i n) (hj : i.toNatClampNeg = j) (dg : decode cc pc = .ok (.laload, 1)) (k : X θ κ Φ st (pc + 1) lo (.long (sL st a j) :: stk)) : X θ κ Φ st pc lo (.int i :: .ref (ad θ a) :: stk) := by
  subst hj
  exact X_lald C hσ (by rw [hlen]; exact hin) dg k
theorem X_baldS (C : Cx θ κ y cc nL ret hh d) {a n j : Nat} {i : Int32} (hσ : thS θ a = 103) (hlen : thL θ a = n) (hin : vp_in i n) (hj : i.toNatClampNeg = j) (dg : decode cc pc = .ok (.baload, 1)) (k : X θ κ Φ st (pc + 1) lo (.int (sI st a j) :: stk)) : X θ κ Φ st pc lo (.int i :: .ref (ad θ a) :: stk) := by
  subst hj
  exact X_know fun h => X_bald C (sh_static h hσ (Nat.succ_ne_zero _)) (by rw [ln_static h hσ (Nat.succ_ne_zero _) hlen]; exact hin) dg k
theorem X_baldD (C : Cx θ κ y cc nL ret hh d) {a n j : Nat} {i : Int32} (hσ : sh st a = 103) (hlen : ln st a = n) (hin : vp_in i n) (hj : i.toNatClampNeg = j) (dg : decode cc pc = .ok (.baload, 1)) (k : X θ κ Φ st (pc + 1) lo (.int (sI st a j) :: stk)) : X θ κ Φ st pc lo (.int i :: .ref (ad θ a) :: stk) := by
  subst hj
  exact X_bald C hσ (by rw [hlen]; exact hin) dg k
theorem X_zaldS (C : Cx θ κ y cc nL ret hh d) {a n j : Nat} {i : Int32} (hσ : thS θ a = 104) (hlen : thL θ a = n) (hin : vp_in i n) (hj : i.toNatClampNeg = j) (dg : decode cc pc = .ok (.baload, 1)) (k : X θ κ Φ st (pc + 1) lo (.int (sI st a j) :: stk)) : X θ κ Φ st pc lo (.int i :: .ref (ad θ a) :: stk) := by
  subst hj
  exact X_know fun h => X_zald C (sh_static h hσ (Nat.succ_ne_zero _)) (by rw [ln_static h hσ (Nat.succ_ne_zero _) hlen]; exact hin) dg k
theorem X_zaldD (C : Cx θ κ y cc nL ret hh d) {a n j : Nat} {i : Int32} (hσ : sh st a = 104) (hlen : ln st a = n) (hin : vp_in i n) (hj : i.toNatClampNeg = j) (dg : decode cc pc = .ok (.baload, 1)) (k : X θ κ Φ st (pc + 1) lo (.int (sI st a j) :: stk)) : X θ κ Φ st pc lo (.int i :: .ref (ad θ a) :: stk) := by
  subst hj
  exact X_zald C hσ (by rw [hlen]; exact hin) dg k
theorem X_caldS (C : Cx θ κ y cc nL ret hh d) {a n j : Nat} {i : Int32} (hσ : thS θ a = 105) (hlen : thL θ a = n) (hin : vp_in i n) (hj : i.toNatClampNeg = j) (dg : decode cc pc = .ok (.caload, 1)) (k : X θ κ Φ st (pc + 1) lo (.int (sI st a j) :: stk)) : X θ κ Φ st pc lo (.int i :: .ref (ad θ a) :: stk) := by
  subst hj
  exact X_know fun h => X_cald C (sh_static h hσ (Nat.succ_ne_zero _)) (by rw [ln_static h hσ (Nat.succ_ne_zero _) hlen]; exact hin) dg k
theorem X_caldD (C : Cx θ κ y cc nL ret hh d) {a n j : Nat} {i : Int32} (hσ : sh st a = 105) (hlen : ln st a = n) (hin : vp_in i n) (hj : i.toNatClampNeg = j) (dg : decode cc pc = .ok (.caload, 1)) (k : X θ κ Φ st (pc + 1) lo (.int (sI st a j) :: stk)) : X θ κ Φ st pc lo (.int i :: .ref (ad θ a) :: stk) := by
  subst hj
  exact X_cald C hσ (by rw [hlen]; exact hin) dg k
theorem X_saldS (C : Cx θ κ y cc nL ret hh d) {a n j : Nat} {i : Int32} (hσ : thS θ a = 106) (hlen : thL θ a = n) (hin : vp_in i n) (hj : i.toNatClampNeg = j) (dg : decode cc pc = .ok (.saload, 1)) (k : X θ κ Φ st (pc + 1) lo (.int (sI st a j) :: stk)) : X θ κ Φ st pc lo (.int i :: .ref (ad θ a) :: stk) := by
  subst hj
  exact X_know fun h => X_sald C (sh_static h hσ (Nat.succ_ne_zero _)) (by rw [ln_static h hσ (Nat.succ_ne_zero _) hlen]; exact hin) dg k
theorem X_saldD (C : Cx θ κ y cc nL ret hh d) {a n j : Nat} {i : Int32} (hσ : sh st a = 106) (hlen : ln st a = n) (hin : vp_in i n) (hj : i.toNatClampNeg = j) (dg : decode cc pc = .ok (.saload, 1)) (k : X θ κ Φ st (pc + 1) lo (.int (sI st a j) :: stk)) : X θ κ Φ st pc lo (.int i :: .ref (ad θ a) :: stk) := by
  subst hj
  exact X_sald C hσ (by rw [hlen]; exact hin) dg k
theorem X_iastS (C : Cx θ κ y cc nL ret hh d) {a n j : Nat} {i : Int32} {x : Int32} (hσ : thS θ a = 101) (hlen : thL θ a = n) (hin : vp_in i n) (hj : i.toNatClampNeg = j) (dg : decode cc pc = .ok (.iastore, 1)) (k : X θ κ Φ (putI st a j x) (pc + 1) lo stk) : X θ κ Φ st pc lo (.int x :: .int i :: .ref (ad θ a) :: stk) := by
  subst hj
  exact X_know fun h => X_iast C (lt_static h hσ (Nat.succ_ne_zero _)) (sh_static h hσ (Nat.succ_ne_zero _)) (by rw [ln_static h hσ (Nat.succ_ne_zero _) hlen]; exact hin) dg k
theorem X_iastD (C : Cx θ κ y cc nL ret hh d) {a n j : Nat} {i : Int32} {x : Int32} (ha : a < gBIG) (hσ : sh st a = 101) (hlen : ln st a = n) (hin : vp_in i n) (hj : i.toNatClampNeg = j) (dg : decode cc pc = .ok (.iastore, 1)) (k : X θ κ Φ (putI st a j x) (pc + 1) lo stk) : X θ κ Φ st pc lo (.int x :: .int i :: .ref (ad θ a) :: stk) := by
  subst hj
  exact X_iast C ha hσ (by rw [hlen]; exact hin) dg k
theorem X_lastS (C : Cx θ κ y cc nL ret hh d) {a n j : Nat} {i : Int32} {x : Int64} (hσ : thS θ a = 102) (hlen : thL θ a = n) (hin : vp_in i n) (hj : i.toNatClampNeg = j) (dg : decode cc pc = .ok (.lastore, 1)) (k : X θ κ Φ (putL st a j x) (pc + 1) lo stk) : X θ κ Φ st pc lo (.long x :: .int i :: .ref (ad θ a) :: stk) := by
  subst hj
  exact X_know fun h => X_last C (lt_static h hσ (Nat.succ_ne_zero _)) (sh_static h hσ (Nat.succ_ne_zero _)) (by rw [ln_static h hσ (Nat.succ_ne_zero _) hlen]; exact hin) dg k
theorem X_lastD (C : Cx θ κ y cc nL ret hh d) {a n j : Nat} {i : Int32} {x : Int64} (ha : a < gBIG) (hσ : sh st a = 102) (hlen : ln st a = n) (hin : vp_in i n) (hj : i.toNatClampNeg = j) (dg : decode cc pc = .ok (.lastore, 1)) (k : X θ κ Φ (putL st a j x) (pc + 1) lo stk) : X θ κ Φ st pc lo (.long x :: .int i :: .ref (ad θ a) :: stk) := by
  subst hj
  exact X_last C ha hσ (by rw [hlen]; exact hin) dg k
theorem X_zastS (C : Cx θ κ y cc nL ret hh d) {a n j : Nat} {i : Int32} {x : Int32} (hσ : thS θ a = 104) (hlen : thL θ a = n) (hin : vp_in i n) (hj : i.toNatClampNeg = j) (dg : decode cc pc = .ok (.bastore, 1)) (k : X θ κ Φ (putI st a j (vp_nar .boolean x)) (pc + 1) lo stk) : X θ κ Φ st pc lo (.int x :: .int i :: .ref (ad θ a) :: stk) := by
  subst hj
  exact X_know fun h => X_zast C (lt_static h hσ (Nat.succ_ne_zero _)) (sh_static h hσ (Nat.succ_ne_zero _)) (by rw [ln_static h hσ (Nat.succ_ne_zero _) hlen]; exact hin) dg k
theorem X_zastD (C : Cx θ κ y cc nL ret hh d) {a n j : Nat} {i : Int32} {x : Int32} (ha : a < gBIG) (hσ : sh st a = 104) (hlen : ln st a = n) (hin : vp_in i n) (hj : i.toNatClampNeg = j) (dg : decode cc pc = .ok (.bastore, 1)) (k : X θ κ Φ (putI st a j (vp_nar .boolean x)) (pc + 1) lo stk) : X θ κ Φ st pc lo (.int x :: .int i :: .ref (ad θ a) :: stk) := by
  subst hj
  exact X_zast C ha hσ (by rw [hlen]; exact hin) dg k
theorem X_bastS (C : Cx θ κ y cc nL ret hh d) {a n j : Nat} {i : Int32} {x : Int32} (hσ : thS θ a = 103) (hlen : thL θ a = n) (hin : vp_in i n) (hj : i.toNatClampNeg = j) (dg : decode cc pc = .ok (.bastore, 1)) (k : X θ κ Φ (putI st a j (x.toInt8.toInt32)) (pc + 1) lo stk) : X θ κ Φ st pc lo (.int x :: .int i :: .ref (ad θ a) :: stk) := by
  subst hj
  exact X_know fun h => X_bast C (lt_static h hσ (Nat.succ_ne_zero _)) (sh_static h hσ (Nat.succ_ne_zero _)) (by rw [ln_static h hσ (Nat.succ_ne_zero _) hlen]; exact hin) dg k
theorem X_bastD (C : Cx θ κ y cc nL ret hh d) {a n j : Nat} {i : Int32} {x : Int32} (ha : a < gBIG) (hσ : sh st a = 103) (hlen : ln st a = n) (hin : vp_in i n) (hj : i.toNatClampNeg = j) (dg : decode cc pc = .ok (.bastore, 1)) (k : X θ κ Φ (putI st a j (x.toInt8.toInt32)) (pc + 1) lo stk) : X θ κ Φ st pc lo (.int x :: .int i :: .ref (ad θ a) :: stk) := by
  subst hj
  exact X_bast C ha hσ (by rw [hlen]; exact hin) dg k
theorem X_sastS (C : Cx θ κ y cc nL ret hh d) {a n j : Nat} {i : Int32} {x : Int32} (hσ : thS θ a = 106) (hlen : thL θ a = n) (hin : vp_in i n) (hj : i.toNatClampNeg = j) (dg : decode cc pc = .ok (.sastore, 1)) (k : X θ κ Φ (putI st a j (x.toInt16.toInt32)) (pc + 1) lo stk) : X θ κ Φ st pc lo (.int x :: .int i :: .ref (ad θ a) :: stk) := by
  subst hj
  exact X_know fun h => X_sast C (lt_static h hσ (Nat.succ_ne_zero _)) (sh_static h hσ (Nat.succ_ne_zero _)) (by rw [ln_static h hσ (Nat.succ_ne_zero _) hlen]; exact hin) dg k
theorem X_sastD (C : Cx θ κ y cc nL ret hh d) {a n j : Nat} {i : Int32} {x : Int32} (ha : a < gBIG) (hσ : sh st a = 106) (hlen : ln st a = n) (hin : vp_in i n) (hj : i.toNatClampNeg = j) (dg : decode cc pc = .ok (.sastore, 1)) (k : X θ κ Φ (putI st a j (x.toInt16.toInt32)) (pc + 1) lo stk) : X θ κ Φ st pc lo (.int x :: .int i :: .ref (ad θ a) :: stk) := by
  subst hj
  exact X_sast C ha hσ (by rw [hlen]; exact hin) dg k
theorem X_aaldF (C : Cx θ κ y cc nL ret hh d) {a b t n j : Nat} {i : Int32} (t0 : Nat) (ht0 : gcodes[t0]? = some t) (hσ : thS θ a = t) (h110 : 110 ≤ t) (hty : (acomp t).isReference = true) (hlen : thL θ a = n) (hin : vp_in i n) (hj : i.toNatClampNeg = j) (hF : thF θ a j = some b) (dg : decode cc pc = .ok (.aaload, 1)) (hv : sv θ st (acomp t) a j = rv θ (sR st a j)) (k : X θ κ Φ st (pc + 1) lo (.ref (ad θ b) :: stk)) : X θ κ Φ st pc lo (.int i :: .ref (ad θ a) :: stk) := by
  subst hj
  exact X_know fun h => X_aald C t0 ht0 (sh_static h hσ (by omega)) h110 hty (by rw [ln_static h hσ (by omega) hlen]; exact hin) dg (by rw [hv, rf_static h hσ (by omega) hF]; exact k)
theorem X_alenS (C : Cx θ κ y cc nL ret hh d) {t a n : Nat} (t0 : Nat) (ht0 : gcodes[t0]? = some t) (hσ : thS θ a = t) (h100 : 100 ≤ t) (hlen : thL θ a = n) {v : Int32} (hv : Int32.ofNat n = v) (dg : decode cc pc = .ok (.arraylength, 1)) (k : X θ κ Φ st (pc + 1) lo (.int v :: stk)) : X θ κ Φ st pc lo (.ref (ad θ a) :: stk) := X_know fun h => X_alen C t0 ht0 (sh_static h hσ (by omega)) h100 (by rw [ln_static h hσ (by omega) hlen]; exact hv) dg k
theorem nb_01 {v : Int32} (h : v = 0 ∨ v = 1) : narrow .boolean (.int v) = .int v ∧ fits .boolean (.int v) = true := by
  rcases h with rfl | rfl <;> exact ⟨rfl, rfl⟩
theorem X_tls {v : Value} (k : X θ κ Φ st pc lo (v :: stk)) : X θ κ Φ st pc lo ((some v).toList ++ stk) := k
theorem X_tln (k : X θ κ Φ st pc lo stk) : X θ κ Φ st pc lo ((none : Option Value).toList ++ stk) := k
theorem vp_dec {i : Int32} {n : Nat} (h : decide (i < 0 ∨ n ≤ i.toNatClampNeg) = false) : vp_in i n := of_decide_eq_false h
theorem nr_ref {θ : Th} {v : Option Nat} {ty : FieldType} (h : (∃ n, ty = .object n) ∨ ∃ t, ty = .array t) : narrow ty (rv θ v) = rv θ v ∧ fits ty (rv θ v) = true := by
  rcases h with ⟨n, rfl⟩ | ⟨t, rfl⟩ <;> cases v <;> exact ⟨rfl, rfl⟩
theorem sv_R {ty : FieldType} (h : (∃ n, ty = .object n) ∨ ∃ t, ty = .array t) (a j : Nat) : sv θ st ty a j = rv θ (sR st a j) := by
  rcases h with ⟨n, rfl⟩ | ⟨t, rfl⟩ <;> rfl
theorem X_putR (C : Cx θ κ y cc nL ret hh d) (hX : LX θ) {ci j idx : Nat} {q : vw_C} (hc : gcl[ci]? = some q) (hj : j < q.2.2) {ref : String} (hlink : (Cond.fieldLink y.cls idx ref (q.2.1 j).2.1 (q.2.1 j).2.2.1) ∈ lw_all) (hsame : ref = (q.2.1 j).1) (hfin : (q.2.1 j).2.2.2 = false) (dg : decode cc pc = .ok (.putfield idx, 3)) {a : Nat} (ha : a < gBIG) (hsh : sh st a = ci + 1) (hns : gS.contains (ci + 1) = false) {v : Option Nat} (ht : (∃ n, gty ci j = .object n) ∨ ∃ t, gty ci j = .array t) (k : X θ κ Φ (putR st a j v) (pc + 3) lo stk) : X θ κ Φ st pc lo (rv θ v :: .ref (ad θ a) :: stk) := X_know fun h => X_put C hc hj hlink hsame hfin dg ha hsh (Put_R (by rw [sv_R ht, sR_putR]) (Or.inl (noStat hX h hns hsh))) (nr_ref ht).1 (nr_ref ht).2 k
theorem X_putNR (C : Cx θ κ y cc nL ret hh d) (hX : LX θ) {ci j idx : Nat} {q : vw_C} (hc : gcl[ci]? = some q) (hj : j < q.2.2) {ref host : String} (hlink : (Cond.fieldLinkNest y.cls idx ref (q.2.1 j).2.1 (q.2.1 j).2.2.1 host) ∈ lw_tbl) (hsame : ref = (q.2.1 j).1) (hfin : (q.2.1 j).2.2.2 = false) (dg : decode cc pc = .ok (.putfield idx, 3)) {a : Nat} (ha : a < gBIG) (hsh : sh st a = ci + 1) (hns : gS.contains (ci + 1) = false) {v : Option Nat} (ht : (∃ n, gty ci j = .object n) ∨ ∃ t, gty ci j = .array t) (k : X θ κ Φ (putR st a j v) (pc + 3) lo stk) : X θ κ Φ st pc lo (rv θ v :: .ref (ad θ a) :: stk) := X_know fun h => X_putN C hc hj hlink hsame hfin dg ha hsh (Put_R (by rw [sv_R ht, sR_putR]) (Or.inl (noStat hX h hns hsh))) (nr_ref ht).1 (nr_ref ht).2 k
theorem X_putFR (C : Cx θ κ y cc nL ret hh d) (hX : LX θ) (hin : y.name = "<init>") {ci j idx : Nat} {q : vw_C} (hc : gcl[ci]? = some q) (hj : j < q.2.2) {ref : String} (hlink : (Cond.fieldLink y.cls idx ref (q.2.1 j).2.1 (q.2.1 j).2.2.1) ∈ lw_all) (hsame : ref = (q.2.1 j).1) (hfin : (q.2.1 j).2.2.2 = true) (hdecl : (q.2.1 j).1 = y.cls) (dg : decode cc pc = .ok (.putfield idx, 3)) {a : Nat} (ha : a < gBIG) (hsh : sh st a = ci + 1) (hns : gS.contains (ci + 1) = false) {v : Option Nat} (ht : (∃ n, gty ci j = .object n) ∨ ∃ t, gty ci j = .array t) (k : X θ κ Φ (putR st a j v) (pc + 3) lo stk) : X θ κ Φ st pc lo (rv θ v :: .ref (ad θ a) :: stk) := X_know fun h => X_putF C hin hc hj hlink hsame hfin hdecl dg ha hsh (Put_R (by rw [sv_R ht, sR_putR]) (Or.inl (noStat hX h hns hsh))) (nr_ref ht).1 (nr_ref ht).2 k
theorem X_putFI (C : Cx θ κ y cc nL ret hh d) (hin : y.name = "<init>") {ci j idx : Nat} {q : vw_C} (hc : gcl[ci]? = some q) (hj : j < q.2.2) {ref : String} (hlink : (Cond.fieldLink y.cls idx ref (q.2.1 j).2.1 (q.2.1 j).2.2.1) ∈ lw_all) (hsame : ref = (q.2.1 j).1) (hfin : (q.2.1 j).2.2.2 = true) (hdecl : (q.2.1 j).1 = y.cls) (dg : decode cc pc = .ok (.putfield idx, 3)) {a : Nat} (ha : a < gBIG) (hsh : sh st a = ci + 1) {v : Int32} (ht : sv θ (putI st a j v) (gty ci j) a j = .int (sI (putI st a j v) a j)) (hn : narrow (gty ci j) (.int v) = .int v) (hf : fits (gty ci j) (.int v) = true) (k : X θ κ Φ (putI st a j v) (pc + 3) lo stk) : X θ κ Φ st pc lo (.int v :: .ref (ad θ a) :: stk) := X_putF C hin hc hj hlink hsame hfin hdecl dg ha hsh (Put_I (by rw [ht, sI_putI])) hn hf k
theorem sh_mk {c n : Nat} : sh (mk st c n) (sN st) = c := by simp [mk, sh]
theorem ln_mk {c n : Nat} : ln (mk st c n) (sN st) = n := by simp [mk, ln]
theorem nb_N (h : sN st + 1 ≤ gCAP) : sN st < gBIG := by unfold gBIG; unfold gCAP at h; omega
theorem con_str {st : St} (h : SC st) {i : Nat} (hi : i < 21) : sh st (gBIG + 2 * i) = 10 := by
  have h1 : kS (gBIG + 2 * i) = 10 := all_lt (n := 21) (P := fun i => kS (gBIG + 2 * i) = 10) (by decide +kernel) hi
  rw [← h1]; exact (h _ (Nat.le_add_right _ _) (by rw [h1]; decide)).1
theorem con_dig_s {st : St} (h : SC st) {k : Nat} (hi : k = gBIG + 200 ∨ k = gBIG + 201) : sh st k = 103 := by
  have h1 : kS k = 103 := by rcases hi with rfl | rfl <;> decide +kernel
  rw [← h1]; exact (h k (by rcases hi with rfl | rfl <;> exact Nat.le_add_right _ _) (by rw [h1]; decide)).1
theorem con_dig_l {st : St} (h : SC st) {k : Nat} (hi : k = gBIG + 200 ∨ k = gBIG + 201) : ln st k = 100 := by
  have h1 : kS k = 103 := by rcases hi with rfl | rfl <;> decide +kernel
  have h2 : kL k = 100 := by rcases hi with rfl | rfl <;> decide +kernel
  rw [← h2]; exact (h k (by rcases hi with rfl | rfl <;> exact Nat.le_add_right _ _) (by rw [h1]; decide)).2.1 h1
theorem XT_nm {E : String} {q : Addr} (k : ∀ st2, st2 = st → XT θ κ Φ st2 pc lo E q) : XT θ κ Φ st pc lo E q := k st rfl
theorem X_tor {x : Nat} (k : X θ κ Φ st pc lo (.ref (ad θ x) :: stk)) : X θ κ Φ st pc lo (rv θ (some x) :: stk) := k
theorem X_fro {x : Nat} (k : X θ κ Φ st pc lo (rv θ (some x) :: stk)) : X θ κ Φ st pc lo (.ref (ad θ x) :: stk) := k
theorem X_frn (k : X θ κ Φ st pc lo (rv θ none :: stk)) : X θ κ Φ st pc lo (.null :: stk) := k
theorem rv_none {r : Option Nat} : rv θ r = .null ↔ r = none := by
  cases r with
  | none => exact ⟨fun _ => rfl, fun _ => rfl⟩
  | some k => exact ⟨fun q => (by cases q), fun q => (by cases q)⟩
theorem ne_toInt {x k : Int32} (h : ¬ x = k) : x.toInt ≠ k.toInt := fun q => h (Int32.toInt_inj.mp q)
theorem nc_in {v : Int32} (h : 0 ≤ v.toInt ∧ v.toInt < 65536) : narrow .char (.int v) = .int v ∧ fits .char (.int v) = true := by
  obtain ⟨q, hq, rfl⟩ : ∃ q : Nat, q < 65536 ∧ v = nI q := ⟨v.toInt.toNat, by omega, by
    apply Int32.toInt_inj.mp
    rw [nI_toInt (by omega)]; omega⟩
  exact pk_charN hq
theorem ny_in {v : Int32} (h : v.toInt8.toInt32 = v) : narrow .byte (.int v) = .int v ∧ fits .byte (.int v) = true := by
  rw [← h]; exact ⟨pk_nb v, pk_fb v⟩
theorem X_callVS {Ψ : Ph} (C : Cx θ κ y cc nL ret hh d) {y2 : MethodName} {by2 : ByteArray} {maxL : Nat} {idx d2 : Nat} {As rest : List Value} {ret2 : Option FieldType} {n : Nat} {ci a : Nat} {q : vw_C} (hc : gcl[ci]? = some q) (hσ : thS θ a = ci + 1) (hq1 : Cond.methodLink y.cls idx y2 ∈ lw_all) (hq2 : Cond.instanceMethod y2 ∈ lw_all) (hq3 : Cond.selects q.1 y2 y2 ∈ lw_all) (hq4 : Cond.initialized q.1 ∈ lw_all) (hq5 : Cond.code y2 by2 maxL ret2 ∈ lw_all) (hnm2 : y2.cls = q.1 ∧ y2.cls ≠ "java/lang/invoke/MethodHandle" ∧ y2.cls ≠ "java/lang/invoke/VarHandle" ∧ (parseMethodDescriptor y2.desc).map (fun d => d.parameters.length) = some n) (hn : As.length = n) (dg : decode cc pc = .ok (.invokevirtual idx, 3)) (hM : Ct θ κ.2.1 y2 (ws_ y2 by2 maxL ret2) d2 (.ref (ad θ a) :: As) st Ψ) (hd : d2 < d) (hmL : maxL ≤ 40) (hrest : (rest.map fun v => v.category).sum ≤ 8) (kn : ∀ st2 v, Ext st st2 → Ψ.1 st2 v → X θ κ Φ st2 (pc + 3) lo (v.toList ++ rest)) (kx : ∀ st2 E q, Ext st st2 → Ψ.2 st2 E q → XT θ κ Φ st2 pc lo E q) : X θ κ Φ st pc lo (As.reverse ++ .ref (ad θ a) :: rest) := X_know fun h => X_callV C hc (sh_static h hσ (Nat.succ_ne_zero _)) hq1 hq2 hq3 hq4 hq5 hnm2 hn dg hM hd hmL hrest kn kx
theorem X_callVXS {Ψ : Ph} (C : Cx θ κ y cc nL ret hh d) {y2 : MethodName} {by2 : ByteArray} {maxL : Nat} {idx d2 : Nat} {As rest : List Value} {ret2 : Option FieldType} {hh2 : List (Nat × Nat × Nat × Nat)} {n : Nat} {ci a : Nat} {q : vw_C} (hc : gcl[ci]? = some q) (hσ : thS θ a = ci + 1) (hq1 : Cond.methodLink y.cls idx y2 ∈ lw_all) (hq2 : Cond.instanceMethod y2 ∈ lw_all) (hq3 : Cond.selects q.1 y2 y2 ∈ lw_all) (hq4 : Cond.initialized q.1 ∈ lw_all) (hq5 : Cond.codeWith y2 by2 maxL ret2 hh2 ∈ lw_all) (hnm2 : y2.cls = q.1 ∧ y2.cls ≠ "java/lang/invoke/MethodHandle" ∧ y2.cls ≠ "java/lang/invoke/VarHandle" ∧ (parseMethodDescriptor y2.desc).map (fun d => d.parameters.length) = some n) (hn : As.length = n) (dg : decode cc pc = .ok (.invokevirtual idx, 3)) (hM : Ct θ κ.2.1 y2 (wsW_ y2 by2 maxL ret2 hh2) d2 (.ref (ad θ a) :: As) st Ψ) (hd : d2 < d) (hmL : maxL ≤ 40) (hrest : (rest.map fun v => v.category).sum ≤ 8) (kn : ∀ st2 v, Ext st st2 → Ψ.1 st2 v → X θ κ Φ st2 (pc + 3) lo (v.toList ++ rest)) (kx : ∀ st2 E q, Ext st st2 → Ψ.2 st2 E q → XT θ κ Φ st2 pc lo E q) : X θ κ Φ st pc lo (As.reverse ++ .ref (ad θ a) :: rest) := X_know fun h => X_callVX C hc (sh_static h hσ (Nat.succ_ne_zero _)) hq1 hq2 hq3 hq4 hq5 hnm2 hn dg hM hd hmL hrest kn kx
end STATIC
/-- the shapes of answers -/
def noX : St → String → Addr → Prop := fun _ _ _ => False
def exW (θ : Th) (Φw : St → Nat → Prop) : St → String → Addr → Prop := fun st E q => E = "SecretsWorth$Wrong" ∧ ∃ a, q = ad θ a ∧ a < gBIG ∧ sh st a = 6 ∧ Φw st a
def exF (θ : Th) (Φf : St → Nat → Prop) : St → String → Addr → Prop := fun st E q => E = "SecretsWorth$Fault" ∧ ∃ a, q = ad θ a ∧ a < gBIG ∧ sh st a = 7 ∧ Φf st a
def exA (Φa : St → Prop) : St → String → Addr → Prop := fun st E _ => E = "java/lang/ArithmeticException" ∧ Φa st
def exOr (A B : St → String → Addr → Prop) : St → String → Addr → Prop := fun st E q => A st E q ∨ B st E q
def pI (Φ : St → Int32 → Prop) : St → Option Value → Prop := fun st v => ∃ r, v = some (.int r) ∧ Φ st r
def pL (Φ : St → Int64 → Prop) : St → Option Value → Prop := fun st v => ∃ r, v = some (.long r) ∧ Φ st r
def pV (Φ : St → Prop) : St → Option Value → Prop := fun st v => v = none ∧ Φ st
def pN (θ : Th) (c : Nat) (Φ : St → Nat → Prop) : St → Option Value → Prop := fun st v => ∃ r, v = some (.ref (ad θ r)) ∧ r < gBIG ∧ sh st r = c ∧ Φ st r
def pO (θ : Th) (Φ : St → Option Nat → Prop) : St → Option Value → Prop := fun st v => ∃ r, v = some (rv θ r) ∧ Φ st r
/-- readers: the store stays -/
def rI (st0 : St) (Φ : Int32 → Prop) : St → Option Value → Prop := fun st v => ∃ r, v = some (.int r) ∧ st0 = st ∧ Φ r
def rL (st0 : St) (Φ : Int64 → Prop) : St → Option Value → Prop := fun st v => ∃ r, v = some (.long r) ∧ st0 = st ∧ Φ r
def rV (st0 : St) (Φ : Prop) : St → Option Value → Prop := fun st v => v = none ∧ st0 = st ∧ Φ
def rN (θ : Th) (st0 : St) (c : Nat) (Φ : Nat → Prop) : St → Option Value → Prop := fun st v => ∃ r, v = some (.ref (ad θ r)) ∧ st0 = st ∧ r < gBIG ∧ sh st0 r = c ∧ Φ r
def rO (θ : Th) (st0 : St) (Φ : Option Nat → Prop) : St → Option Value → Prop := fun st v => ∃ r, v = some (rv θ r) ∧ st0 = st ∧ Φ r
/-- turns enough for every loop -/
def gFU : Nat := 1000000000
