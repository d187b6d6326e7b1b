/-! THE START, 1: stores by lists of cells (shape, length, ints, longs, references), for the constructors -/
abbrev Lc : Type := Nat × Nat × List (Nat × Int32) × List (Nat × Int64) × List (Nat × Option Nat)
def lkp {α : Type} (d : α) : List (Nat × α) → Nat → α
  | [], _ => d
  | (i, v) :: l, j => if j = i then v else lkp d l j
def d0 : Lc := (0, 0, [], [], [])
def bsS (k : Nat) : Nat := if gBIG ≤ k then kS k else 0
def bsL (k : Nat) : Nat := if gBIG ≤ k then kL k else 0
def bsI (k j : Nat) : Int32 := if gBIG ≤ k then kI k j else 0
def bsR (k j : Nat) : Option Nat := if gBIG ≤ k then kR k j else none
def stOf (L : List Lc) : St := (L.length, (L.map (fun c => c.2.1)).sum, fun k => if k < L.length then (L.getD k d0).1 else bsS k, fun k => if k < L.length then (L.getD k d0).2.1 else bsL k, fun k j => if k < L.length then lkp 0 (L.getD k d0).2.2.1 j else bsI k j, fun k j => if k < L.length then lkp 0 (L.getD k d0).2.2.2.1 j else 0, fun k j => if k < L.length then lkp none (L.getD k d0).2.2.2.2 j else bsR k j)
def al (L : List Lc) (c n : Nat) : List Lc := L ++ [(c, n, [], [], [])]
def md (f : Lc → Lc) : List Lc → Nat → List Lc
  | [], _ => []
  | c :: L, 0 => f c :: L
  | c :: L, a + 1 => c :: md f L a
def pIg (L : List Lc) (a j : Nat) (v : Int32) : List Lc := md (fun c => (c.1, c.2.1, (j, v) :: c.2.2.1, c.2.2.2)) L a
def pLg (L : List Lc) (a j : Nat) (v : Int64) : List Lc := md (fun c => (c.1, c.2.1, c.2.2.1, (j, v) :: c.2.2.2.1, c.2.2.2.2)) L a
def pRg (L : List Lc) (a j : Nat) (v : Option Nat) : List Lc := md (fun c => (c.1, c.2.1, c.2.2.1, c.2.2.2.1, (j, v) :: c.2.2.2.2)) L a
theorem md_len {f : Lc → Lc} : ∀ {L : List Lc} {a : Nat}, (md f L a).length = L.length
  | [], _ => rfl
  | _ :: _, 0 => rfl
  | _ :: L, a + 1 => by show (md f L a).length + 1 = L.length + 1; rw [md_len]
theorem md_getD {f : Lc → Lc} : ∀ {L : List Lc} {a k : Nat}, a < L.length → (md f L a).getD k d0 = if k = a then f (L.getD a d0) else L.getD k d0
  | [], a, k, h => absurd h (by simp)
  | c :: L, 0, 0, _ => by simp [md]
  | c :: L, 0, k + 1, _ => by simp [md]
  | c :: L, a + 1, 0, _ => by simp [md]
  | c :: L, a + 1, k + 1, h => by
    have := md_getD (f := f) (L := L) (a := a) (k := k) (by simpa using h)
    simp only [md, List.getD_cons_succ, this, Nat.add_right_cancel_iff]
theorem md_sum {f : Lc → Lc} (hf : ∀ c, (f c).2.1 = c.2.1) : ∀ {L : List Lc} {a : Nat}, ((md f L a).map (fun c => c.2.1)).sum = (L.map (fun c => c.2.1)).sum
  | [], _ => rfl
  | c :: L, 0 => by simp [md, hf]
  | c :: L, a + 1 => by simp [md, md_sum hf (L := L) (a := a)]
theorem St_ext {a b : St} (h1 : sN a = sN b) (h2 : sS a = sS b) (h3 : ∀ k, sh a k = sh b k) (h4 : ∀ k, ln a k = ln b k) (h5 : ∀ k j, sI a k j = sI b k j) (h6 : ∀ k j, sL a k j = sL b k j) (h7 : ∀ k j, sR a k j = sR b k j) : a = b := by
  obtain ⟨a1, a2, a3, a4, a5, a6, a7⟩ := a
  obtain ⟨b1, b2, b3, b4, b5, b6, b7⟩ := b
  have e1 : a1 = b1 := h1
  have e2 : a2 = b2 := h2
  have e3 : a3 = b3 := funext h3
  have e4 : a4 = b4 := funext h4
  have e5 : a5 = b5 := funext fun k => funext (h5 k)
  have e6 : a6 = b6 := funext fun k => funext (h6 k)
  have e7 : a7 = b7 := funext fun k => funext (h7 k)
  rw [e1, e2, e3, e4, e5, e6, e7]
theorem getD_app {L : List Lc} {x : Lc} {k : Nat} : (L ++ [x]).getD k d0 = if k = L.length then x else L.getD k d0 := by
  by_cases e : k = L.length
  · subst e; simp
  · rw [if_neg e]
    by_cases h : k < L.length
    · rw [List.getD_eq_getElem?_getD, List.getD_eq_getElem?_getD, List.getElem?_append_left h]
    · rw [List.getD_eq_getElem?_getD, List.getD_eq_getElem?_getD, List.getElem?_eq_none (by simp; omega), List.getElem?_eq_none (by omega)]
theorem mk_stOf {L : List Lc} {c n : Nat} : mk (stOf L) c n = stOf (al L c n) := by
  have hl : (al L c n).length = L.length + 1 := by simp [al]
  refine St_ext ?_ ?_ (fun k => ?_) (fun k => ?_) (fun k j => ?_) (fun k j => ?_) (fun k j => ?_)
  · show L.length + 1 = _; exact hl.symm
  · show (L.map (fun c => c.2.1)).sum + n = ((al L c n).map (fun c => c.2.1)).sum
    simp [al]
  all_goals
    change (if k = L.length then _ else if k < L.length then _ else _) = (if k < (al L c n).length then _ else _)
    rw [hl]
    unfold al
    rw [getD_app]
    by_cases e : k = L.length
    · subst e; simp [lkp]
    · rw [if_neg e, if_neg e]
      by_cases h : k < L.length
      · rw [if_pos h, if_pos (by omega)]
      · rw [if_neg h, if_neg (by omega)]
theorem putI_stOf {L : List Lc} {a j : Nat} {v : Int32} (h : a < L.length) : putI (stOf L) a j v = stOf (pIg L a j v) := by
  have hl : (pIg L a j v).length = L.length := md_len
  refine St_ext hl.symm (show (L.map (fun c => c.2.1)).sum = ((pIg L a j v).map (fun c => c.2.1)).sum from (md_sum (f := fun c => (c.1, c.2.1, (j, v) :: c.2.2.1, c.2.2.2)) (fun _ => rfl)).symm) (fun k => ?_) (fun k => ?_) (fun k i => ?_) (fun k i => ?_) (fun k i => ?_)
  all_goals
    simp only [putI, stOf, sN, sS, sh, ln, sI, sL, sR, hl]
    unfold pIg
    rw [md_getD h]
    by_cases e : k = a
    · subst e; simp [h, lkp]
    · simp [e]
theorem putL_stOf {L : List Lc} {a j : Nat} {v : Int64} (h : a < L.length) : putL (stOf L) a j v = stOf (pLg L a j v) := by
  have hl : (pLg L a j v).length = L.length := md_len
  refine St_ext hl.symm (show (L.map (fun c => c.2.1)).sum = ((pLg L a j v).map (fun c => c.2.1)).sum from (md_sum (f := fun c => (c.1, c.2.1, c.2.2.1, (j, v) :: c.2.2.2.1, c.2.2.2.2)) (fun _ => rfl)).symm) (fun k => ?_) (fun k => ?_) (fun k i => ?_) (fun k i => ?_) (fun k i => ?_)
  all_goals
    simp only [putL, stOf, sN, sS, sh, ln, sI, sL, sR, hl]
    unfold pLg
    rw [md_getD h]
    by_cases e : k = a
    · subst e; simp [h, lkp]
    · simp [e]
theorem putR_stOf {L : List Lc} {a j : Nat} {v : Option Nat} (h : a < L.length) : putR (stOf L) a j v = stOf (pRg L a j v) := by
  have hl : (pRg L a j v).length = L.length := md_len
  refine St_ext hl.symm (show (L.map (fun c => c.2.1)).sum = ((pRg L a j v).map (fun c => c.2.1)).sum from (md_sum (f := fun c => (c.1, c.2.1, c.2.2.1, c.2.2.2.1, (j, v) :: c.2.2.2.2)) (fun _ => rfl)).symm) (fun k => ?_) (fun k => ?_) (fun k i => ?_) (fun k i => ?_) (fun k i => ?_)
  all_goals
    simp only [putR, stOf, sN, sS, sh, ln, sI, sL, sR, hl]
    unfold pRg
    rw [md_getD h]
    by_cases e : k = a
    · subst e; simp [h, lkp]
    · simp [e]
def alR (L : List Lc) (o c1 k : Nat) : Nat → List Lc
  | 0 => L
  | i + 1 => pRg (al (alR L o c1 k i) c1 k) o i (some (alR L o c1 k i).length)
theorem alR_len {L : List Lc} {o c1 k : Nat} : ∀ i, (alR L o c1 k i).length = L.length + i
  | 0 => rfl
  | i + 1 => by
    show (pRg _ o i _).length = _
    rw [pRg, md_len]; simp [al, alR_len i]; omega
theorem mkRows_stOf {L : List Lc} {o c1 k : Nat} (h : o < L.length) : ∀ i, mkRows (stOf L) o c1 k i = stOf (alR L o c1 k i)
  | 0 => rfl
  | i + 1 => by
    show putR (mk (mkRows (stOf L) o c1 k i) c1 k) o i (some (sN (mkRows (stOf L) o c1 k i))) = _
    rw [mkRows_stOf h i, mk_stOf, putR_stOf (by simp [al, alR_len]; omega)]
    rfl
def al2 (L : List Lc) (c0 c1 n k : Nat) : List Lc := alR (al L c0 n) L.length c1 k n
theorem mk2_stOf {L : List Lc} {c0 c1 n k : Nat} : mk2 (stOf L) c0 c1 n k = stOf (al2 L c0 c1 n k) := by
  show mkRows (mk (stOf L) c0 n) (sN (stOf L)) c1 k n = _
  rw [mk_stOf, mkRows_stOf (by show L.length < _; simp [al])]
  rfl
theorem al2_len {L : List Lc} {c0 c1 n k : Nat} : (al2 L c0 c1 n k).length = L.length + 1 + n := by
  unfold al2; rw [alR_len]; simp [al]
def alR3 (L : List Lc) (o n2 k : Nat) : Nat → List Lc
  | 0 => L
  | i + 1 => pRg (al2 (alR3 L o n2 k i) 111 101 n2 k) o i (some (alR3 L o n2 k i).length)
theorem alR3_len {L : List Lc} {o n2 k : Nat} : ∀ i, L.length ≤ (alR3 L o n2 k i).length
  | 0 => Nat.le_refl _
  | i + 1 => by
    show _ ≤ (pRg _ o i _).length
    rw [pRg, md_len, al2_len]; have := alR3_len (L := L) (o := o) (n2 := n2) (k := k) i; omega
theorem mkRows3_stOf {L : List Lc} {o n2 k : Nat} (h : o < L.length) : ∀ i, mkRows3 (stOf L) o n2 k i = stOf (alR3 L o n2 k i)
  | 0 => rfl
  | i + 1 => by
    show putR (mk2 (mkRows3 (stOf L) o n2 k i) 111 101 n2 k) o i (some (sN (mkRows3 (stOf L) o n2 k i))) = _
    rw [mkRows3_stOf h i, mk2_stOf, putR_stOf (by rw [al2_len]; have := alR3_len (L := L) (o := o) (n2 := n2) (k := k) i; omega)]
    rfl
def al3 (L : List Lc) (n n2 k : Nat) : List Lc := alR3 (al L 112 n) L.length n2 k n
theorem mk3_stOf {L : List Lc} {n n2 k : Nat} : mk3 (stOf L) n n2 k = stOf (al3 L n n2 k) := by
  show mkRows3 (mk (stOf L) 112 n) (sN (stOf L)) n2 k n = _
  rw [mk_stOf, mkRows3_stOf (by show L.length < _; simp [al])]
  rfl
theorem st_mk {L : List Lc} {c n : Nat} {P : St → Prop} (k : P (stOf (al L c n))) : ∀ s, s = mk (stOf L) c n → P s := fun s h => by rw [h, mk_stOf]; exact k
theorem st_mk2 {L : List Lc} {c0 c1 n m : Nat} {P : St → Prop} (k : P (stOf (al2 L c0 c1 n m))) : ∀ s, s = mk2 (stOf L) c0 c1 n m → P s := fun s h => by rw [h, mk2_stOf]; exact k
theorem st_mk3 {L : List Lc} {n n2 m : Nat} {P : St → Prop} (k : P (stOf (al3 L n n2 m))) : ∀ s, s = mk3 (stOf L) n n2 m → P s := fun s h => by rw [h, mk3_stOf]; exact k
theorem st_pI {L : List Lc} {a j : Nat} {v : Int32} {P : St → Prop} (h0 : a < L.length) (k : P (stOf (pIg L a j v))) : ∀ s, s = putI (stOf L) a j v → P s := fun s h => by rw [h, putI_stOf h0]; exact k
theorem st_pL {L : List Lc} {a j : Nat} {v : Int64} {P : St → Prop} (h0 : a < L.length) (k : P (stOf (pLg L a j v))) : ∀ s, s = putL (stOf L) a j v → P s := fun s h => by rw [h, putL_stOf h0]; exact k
theorem st_pR {L : List Lc} {a j : Nat} {v : Option Nat} {P : St → Prop} (h0 : a < L.length) (k : P (stOf (pRg L a j v))) : ∀ s, s = putR (stOf L) a j v → P s := fun s h => by rw [h, putR_stOf h0]; exact k
theorem st_ck {L L' : List Lc} {P : St → Prop} (e : L = L') (k : P (stOf L')) : P (stOf L) := by rw [e]; exact k
