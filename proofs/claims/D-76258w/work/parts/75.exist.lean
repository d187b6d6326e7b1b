/-! PLAIN LAW, 36: a kernel solves (its head printed by kr.py) -/
set_option maxRecDepth 100000
def KR (A : Nat → Nat → Rat) (n : Nat) (q x : Nat → Rat) (t : Nat → Nat → Int) (s : Rat) : Prop := ∃ d : Rat, d ≠ 0 ∧ (∀ k, k < n → ((xZ t n n k : Int) : Rat) = if (n + k) % 2 = 0 then -(d * q k) else d * q k) ∧ (∀ k, k < n → ((xZ t n k n : Int) : Rat) = if (n + k) % 2 = 0 then -(d * x k) else d * x k) ∧ ((xZ t n (n + 1) (n + 1) : Int) : Rat) = -(d * sm n q) ∧ ((xZ t n n n : Int) : Rat) = d * (1 - s * sm n q) ∧ sm n q = sm n x
theorem kr_1 {A : Nat → Nat → Rat} {h w : Nat} {I J : Nat → Nat} {q x : Nat → Rat} {N : Nat → Nat → Rat} (hK : Kern A h w 1 I J q x N) {t : Nat → Nat → Int} {s : Rat} (hA : ∀ i j, i < 1 → j < 1 → A (I i) (J j) = ((t i j : Int) : Rat) + s) : KR A 1 q x t s := by
  obtain ⟨-, -, -, -, -, -, e1, e2, -, -, e5⟩ := hK
  have t00 : ((t 0 0 : Int) : Rat) = A (I 0) (J 0) - s := by rw [hA 0 0 (by omega) (by omega)]; grind
  have hd : A (I 0) (J 0) ≠ 0 := cr1_d (A (I 0) (J 0)) (N 0 0) (by have := e5 0 0 (by omega) (by omega); rw [dl_self] at this; exact this)
  have Q0 : ((xZ t 1 1 0 : Int) : Rat) = (A (I 0) (J 0)) * q 0 := by
    have hh := cr1_Q0 (A (I 0) (J 0)) s (q 0) (x 0) (e1 0 (by omega))
    rw [xz_1_1_0]
    push_cast
    try simp only [t00]
    first | exact hh | grind
  have X0 : ((xZ t 1 0 1 : Int) : Rat) = (A (I 0) (J 0)) * x 0 := by
    have hh := cr1_X0 (A (I 0) (J 0)) s (q 0) (x 0) (e2 0 (by omega))
    rw [xz_1_0_1]
    push_cast
    try simp only [t00]
    first | exact hh | grind
  have W1 : xZ t 1 2 2 = 0 - xZ t 1 1 0 := by
    rw [xz_1_2_2, xz_1_1_0]; grind
  have W2 : xZ t 1 2 2 = 0 - xZ t 1 0 1 := by
    rw [xz_1_2_2, xz_1_0_1]; grind
  have V1 : ((xZ t 1 1 1 : Int) : Rat) = (A (I 0) (J 0)) + s * ((xZ t 1 2 2 : Int) : Rat) := by
    rw [xz_1_1_1, xz_1_2_2]
    push_cast
    try simp only [t00]
    generalize A (I 0) (J 0) = a00
    grind
  have W1r : ((xZ t 1 2 2 : Int) : Rat) = -((A (I 0) (J 0)) * sm 1 q) := by
    rw [W1]
    push_cast
    rw [Q0]
    simp only [sm]
    generalize A (I 0) (J 0) = d
    grind
  have W2r : ((xZ t 1 2 2 : Int) : Rat) = -((A (I 0) (J 0)) * sm 1 x) := by
    rw [W2]
    push_cast
    rw [X0]
    simp only [sm]
    generalize A (I 0) (J 0) = d
    grind
  generalize hdd : A (I 0) (J 0) = d at *
  refine ⟨d, hd, fun k hk => ?_, fun k hk => ?_, W1r, ?_, ?_⟩
  · rw [show k = 0 by omega]; exact Q0
  · rw [show k = 0 by omega]; exact X0
  · rw [V1, W1r]; grind
  · rw [W1r] at W2r
    have h2 : d * (sm 1 q - sm 1 x) = 0 := by grind
    rcases Rat.mul_eq_zero.mp h2 with h3 | h3
    · exact absurd h3 hd
    · grind
theorem kr_2 {A : Nat → Nat → Rat} {h w : Nat} {I J : Nat → Nat} {q x : Nat → Rat} {N : Nat → Nat → Rat} (hK : Kern A h w 2 I J q x N) {t : Nat → Nat → Int} {s : Rat} (hA : ∀ i j, i < 2 → j < 2 → A (I i) (J j) = ((t i j : Int) : Rat) + s) : KR A 2 q x t s := by
  obtain ⟨-, -, -, -, -, -, e1, e2, -, -, e5⟩ := hK
  have t00 : ((t 0 0 : Int) : Rat) = A (I 0) (J 0) - s := by rw [hA 0 0 (by omega) (by omega)]; grind
  have t01 : ((t 0 1 : Int) : Rat) = A (I 0) (J 1) - s := by rw [hA 0 1 (by omega) (by omega)]; grind
  have t10 : ((t 1 0 : Int) : Rat) = A (I 1) (J 0) - s := by rw [hA 1 0 (by omega) (by omega)]; grind
  have t11 : ((t 1 1 : Int) : Rat) = A (I 1) (J 1) - s := by rw [hA 1 1 (by omega) (by omega)]; grind
  have hd : 0 + A (I 0) (J 0) * A (I 1) (J 1) - A (I 0) (J 1) * A (I 1) (J 0) ≠ 0 := cr2_d (A (I 0) (J 0)) (A (I 0) (J 1)) (A (I 1) (J 0)) (A (I 1) (J 1)) (N 0 0) (N 0 1) (N 1 0) (N 1 1) (by have := e5 0 0 (by omega) (by omega); rw [dl_self] at this; exact this) (by have := e5 0 1 (by omega) (by omega); rw [dl_ne (show 0 ≠ 1 by omega)] at this; exact this) (by have := e5 1 0 (by omega) (by omega); rw [dl_ne (show 1 ≠ 0 by omega)] at this; exact this) (by have := e5 1 1 (by omega) (by omega); rw [dl_self] at this; exact this)
  have Q0 : ((xZ t 2 2 0 : Int) : Rat) = -((0 + A (I 0) (J 0) * A (I 1) (J 1) - A (I 0) (J 1) * A (I 1) (J 0)) * q 0) := by
    have hh := cr2_Q0 (A (I 0) (J 0)) (A (I 0) (J 1)) (A (I 1) (J 0)) (A (I 1) (J 1)) s (q 0) (q 1) (x 0) (x 1) (e1 0 (by omega)) (e1 1 (by omega))
    rw [xz_2_2_0]
    push_cast
    try simp only [t00, t01, t10, t11]
    first | exact hh | grind
  have X0 : ((xZ t 2 0 2 : Int) : Rat) = -((0 + A (I 0) (J 0) * A (I 1) (J 1) - A (I 0) (J 1) * A (I 1) (J 0)) * x 0) := by
    have hh := cr2_X0 (A (I 0) (J 0)) (A (I 0) (J 1)) (A (I 1) (J 0)) (A (I 1) (J 1)) s (q 0) (q 1) (x 0) (x 1) (e2 0 (by omega)) (e2 1 (by omega))
    rw [xz_2_0_2]
    push_cast
    try simp only [t00, t01, t10, t11]
    first | exact hh | grind
  have Q1 : ((xZ t 2 2 1 : Int) : Rat) = (0 + A (I 0) (J 0) * A (I 1) (J 1) - A (I 0) (J 1) * A (I 1) (J 0)) * q 1 := by
    have hh := cr2_Q1 (A (I 0) (J 0)) (A (I 0) (J 1)) (A (I 1) (J 0)) (A (I 1) (J 1)) s (q 0) (q 1) (x 0) (x 1) (e1 0 (by omega)) (e1 1 (by omega))
    rw [xz_2_2_1]
    push_cast
    try simp only [t00, t01, t10, t11]
    first | exact hh | grind
  have X1 : ((xZ t 2 1 2 : Int) : Rat) = (0 + A (I 0) (J 0) * A (I 1) (J 1) - A (I 0) (J 1) * A (I 1) (J 0)) * x 1 := by
    have hh := cr2_X1 (A (I 0) (J 0)) (A (I 0) (J 1)) (A (I 1) (J 0)) (A (I 1) (J 1)) s (q 0) (q 1) (x 0) (x 1) (e2 0 (by omega)) (e2 1 (by omega))
    rw [xz_2_1_2]
    push_cast
    try simp only [t00, t01, t10, t11]
    first | exact hh | grind
  have W1 : xZ t 2 3 3 = 0 + xZ t 2 2 0 - xZ t 2 2 1 := by
    rw [xz_2_3_3, xz_2_2_0, xz_2_2_1]; grind
  have W2 : xZ t 2 3 3 = 0 + xZ t 2 0 2 - xZ t 2 1 2 := by
    rw [xz_2_3_3, xz_2_0_2, xz_2_1_2]; grind
  have V1 : ((xZ t 2 2 2 : Int) : Rat) = (0 + A (I 0) (J 0) * A (I 1) (J 1) - A (I 0) (J 1) * A (I 1) (J 0)) + s * ((xZ t 2 3 3 : Int) : Rat) := by
    rw [xz_2_2_2, xz_2_3_3]
    push_cast
    try simp only [t00, t01, t10, t11]
    generalize A (I 0) (J 0) = a00
    generalize A (I 0) (J 1) = a01
    generalize A (I 1) (J 0) = a10
    generalize A (I 1) (J 1) = a11
    grind
  have W1r : ((xZ t 2 3 3 : Int) : Rat) = -((0 + A (I 0) (J 0) * A (I 1) (J 1) - A (I 0) (J 1) * A (I 1) (J 0)) * sm 2 q) := by
    rw [W1]
    push_cast
    rw [Q0, Q1]
    simp only [sm]
    generalize 0 + A (I 0) (J 0) * A (I 1) (J 1) - A (I 0) (J 1) * A (I 1) (J 0) = d
    grind
  have W2r : ((xZ t 2 3 3 : Int) : Rat) = -((0 + A (I 0) (J 0) * A (I 1) (J 1) - A (I 0) (J 1) * A (I 1) (J 0)) * sm 2 x) := by
    rw [W2]
    push_cast
    rw [X0, X1]
    simp only [sm]
    generalize 0 + A (I 0) (J 0) * A (I 1) (J 1) - A (I 0) (J 1) * A (I 1) (J 0) = d
    grind
  generalize hdd : 0 + A (I 0) (J 0) * A (I 1) (J 1) - A (I 0) (J 1) * A (I 1) (J 0) = d at *
  refine ⟨d, hd, fun k hk => ?_, fun k hk => ?_, W1r, ?_, ?_⟩
  · rcases (by omega : k = 0 ∨ k = 1) with rfl | rfl
    · exact Q0
    · exact Q1
  · rcases (by omega : k = 0 ∨ k = 1) with rfl | rfl
    · exact X0
    · exact X1
  · rw [V1, W1r]; grind
  · rw [W1r] at W2r
    have h2 : d * (sm 2 q - sm 2 x) = 0 := by grind
    rcases Rat.mul_eq_zero.mp h2 with h3 | h3
    · exact absurd h3 hd
    · grind
theorem kr_3 {A : Nat → Nat → Rat} {h w : Nat} {I J : Nat → Nat} {q x : Nat → Rat} {N : Nat → Nat → Rat} (hK : Kern A h w 3 I J q x N) {t : Nat → Nat → Int} {s : Rat} (hA : ∀ i j, i < 3 → j < 3 → A (I i) (J j) = ((t i j : Int) : Rat) + s) : KR A 3 q x t s := by
  obtain ⟨-, -, -, -, -, -, e1, e2, -, -, e5⟩ := hK
  have t00 : ((t 0 0 : Int) : Rat) = A (I 0) (J 0) - s := by rw [hA 0 0 (by omega) (by omega)]; grind
  have t01 : ((t 0 1 : Int) : Rat) = A (I 0) (J 1) - s := by rw [hA 0 1 (by omega) (by omega)]; grind
  have t02 : ((t 0 2 : Int) : Rat) = A (I 0) (J 2) - s := by rw [hA 0 2 (by omega) (by omega)]; grind
  have t10 : ((t 1 0 : Int) : Rat) = A (I 1) (J 0) - s := by rw [hA 1 0 (by omega) (by omega)]; grind
  have t11 : ((t 1 1 : Int) : Rat) = A (I 1) (J 1) - s := by rw [hA 1 1 (by omega) (by omega)]; grind
  have t12 : ((t 1 2 : Int) : Rat) = A (I 1) (J 2) - s := by rw [hA 1 2 (by omega) (by omega)]; grind
  have t20 : ((t 2 0 : Int) : Rat) = A (I 2) (J 0) - s := by rw [hA 2 0 (by omega) (by omega)]; grind
  have t21 : ((t 2 1 : Int) : Rat) = A (I 2) (J 1) - s := by rw [hA 2 1 (by omega) (by omega)]; grind
  have t22 : ((t 2 2 : Int) : Rat) = A (I 2) (J 2) - s := by rw [hA 2 2 (by omega) (by omega)]; grind
  have hd : 0 + A (I 0) (J 0) * A (I 1) (J 1) * A (I 2) (J 2) - A (I 0) (J 0) * A (I 1) (J 2) * A (I 2) (J 1) - A (I 0) (J 1) * A (I 1) (J 0) * A (I 2) (J 2) + A (I 0) (J 1) * A (I 1) (J 2) * A (I 2) (J 0) + A (I 0) (J 2) * A (I 1) (J 0) * A (I 2) (J 1) - A (I 0) (J 2) * A (I 1) (J 1) * A (I 2) (J 0) ≠ 0 := cr3_d (A (I 0) (J 0)) (A (I 0) (J 1)) (A (I 0) (J 2)) (A (I 1) (J 0)) (A (I 1) (J 1)) (A (I 1) (J 2)) (A (I 2) (J 0)) (A (I 2) (J 1)) (A (I 2) (J 2)) (N 0 0) (N 0 1) (N 0 2) (N 1 0) (N 1 1) (N 1 2) (N 2 0) (N 2 1) (N 2 2) (by have := e5 0 0 (by omega) (by omega); rw [dl_self] at this; exact this) (by have := e5 0 1 (by omega) (by omega); rw [dl_ne (show 0 ≠ 1 by omega)] at this; exact this) (by have := e5 0 2 (by omega) (by omega); rw [dl_ne (show 0 ≠ 2 by omega)] at this; exact this) (by have := e5 1 0 (by omega) (by omega); rw [dl_ne (show 1 ≠ 0 by omega)] at this; exact this) (by have := e5 1 1 (by omega) (by omega); rw [dl_self] at this; exact this) (by have := e5 1 2 (by omega) (by omega); rw [dl_ne (show 1 ≠ 2 by omega)] at this; exact this) (by have := e5 2 0 (by omega) (by omega); rw [dl_ne (show 2 ≠ 0 by omega)] at this; exact this) (by have := e5 2 1 (by omega) (by omega); rw [dl_ne (show 2 ≠ 1 by omega)] at this; exact this) (by have := e5 2 2 (by omega) (by omega); rw [dl_self] at this; exact this)
  have Q0 : ((xZ t 3 3 0 : Int) : Rat) = (0 + A (I 0) (J 0) * A (I 1) (J 1) * A (I 2) (J 2) - A (I 0) (J 0) * A (I 1) (J 2) * A (I 2) (J 1) - A (I 0) (J 1) * A (I 1) (J 0) * A (I 2) (J 2) + A (I 0) (J 1) * A (I 1) (J 2) * A (I 2) (J 0) + A (I 0) (J 2) * A (I 1) (J 0) * A (I 2) (J 1) - A (I 0) (J 2) * A (I 1) (J 1) * A (I 2) (J 0)) * q 0 := by
    have hh := cr3_Q0 (A (I 0) (J 0)) (A (I 0) (J 1)) (A (I 0) (J 2)) (A (I 1) (J 0)) (A (I 1) (J 1)) (A (I 1) (J 2)) (A (I 2) (J 0)) (A (I 2) (J 1)) (A (I 2) (J 2)) s (q 0) (q 1) (q 2) (x 0) (x 1) (x 2) (e1 0 (by omega)) (e1 1 (by omega)) (e1 2 (by omega))
    rw [xz_3_3_0]
    push_cast
    try simp only [t00, t01, t02, t10, t11, t12, t20, t21, t22]
    first | exact hh | grind
  have X0 : ((xZ t 3 0 3 : Int) : Rat) = (0 + A (I 0) (J 0) * A (I 1) (J 1) * A (I 2) (J 2) - A (I 0) (J 0) * A (I 1) (J 2) * A (I 2) (J 1) - A (I 0) (J 1) * A (I 1) (J 0) * A (I 2) (J 2) + A (I 0) (J 1) * A (I 1) (J 2) * A (I 2) (J 0) + A (I 0) (J 2) * A (I 1) (J 0) * A (I 2) (J 1) - A (I 0) (J 2) * A (I 1) (J 1) * A (I 2) (J 0)) * x 0 := by
    have hh := cr3_X0 (A (I 0) (J 0)) (A (I 0) (J 1)) (A (I 0) (J 2)) (A (I 1) (J 0)) (A (I 1) (J 1)) (A (I 1) (J 2)) (A (I 2) (J 0)) (A (I 2) (J 1)) (A (I 2) (J 2)) s (q 0) (q 1) (q 2) (x 0) (x 1) (x 2) (e2 0 (by omega)) (e2 1 (by omega)) (e2 2 (by omega))
    rw [xz_3_0_3]
    push_cast
    try simp only [t00, t01, t02, t10, t11, t12, t20, t21, t22]
    first | exact hh | grind
  have Q1 : ((xZ t 3 3 1 : Int) : Rat) = -((0 + A (I 0) (J 0) * A (I 1) (J 1) * A (I 2) (J 2) - A (I 0) (J 0) * A (I 1) (J 2) * A (I 2) (J 1) - A (I 0) (J 1) * A (I 1) (J 0) * A (I 2) (J 2) + A (I 0) (J 1) * A (I 1) (J 2) * A (I 2) (J 0) + A (I 0) (J 2) * A (I 1) (J 0) * A (I 2) (J 1) - A (I 0) (J 2) * A (I 1) (J 1) * A (I 2) (J 0)) * q 1) := by
    have hh := cr3_Q1 (A (I 0) (J 0)) (A (I 0) (J 1)) (A (I 0) (J 2)) (A (I 1) (J 0)) (A (I 1) (J 1)) (A (I 1) (J 2)) (A (I 2) (J 0)) (A (I 2) (J 1)) (A (I 2) (J 2)) s (q 0) (q 1) (q 2) (x 0) (x 1) (x 2) (e1 0 (by omega)) (e1 1 (by omega)) (e1 2 (by omega))
    rw [xz_3_3_1]
    push_cast
    try simp only [t00, t01, t02, t10, t11, t12, t20, t21, t22]
    first | exact hh | grind
  have X1 : ((xZ t 3 1 3 : Int) : Rat) = -((0 + A (I 0) (J 0) * A (I 1) (J 1) * A (I 2) (J 2) - A (I 0) (J 0) * A (I 1) (J 2) * A (I 2) (J 1) - A (I 0) (J 1) * A (I 1) (J 0) * A (I 2) (J 2) + A (I 0) (J 1) * A (I 1) (J 2) * A (I 2) (J 0) + A (I 0) (J 2) * A (I 1) (J 0) * A (I 2) (J 1) - A (I 0) (J 2) * A (I 1) (J 1) * A (I 2) (J 0)) * x 1) := by
    have hh := cr3_X1 (A (I 0) (J 0)) (A (I 0) (J 1)) (A (I 0) (J 2)) (A (I 1) (J 0)) (A (I 1) (J 1)) (A (I 1) (J 2)) (A (I 2) (J 0)) (A (I 2) (J 1)) (A (I 2) (J 2)) s (q 0) (q 1) (q 2) (x 0) (x 1) (x 2) (e2 0 (by omega)) (e2 1 (by omega)) (e2 2 (by omega))
    rw [xz_3_1_3]
    push_cast
    try simp only [t00, t01, t02, t10, t11, t12, t20, t21, t22]
    first | exact hh | grind
  have Q2 : ((xZ t 3 3 2 : Int) : Rat) = (0 + A (I 0) (J 0) * A (I 1) (J 1) * A (I 2) (J 2) - A (I 0) (J 0) * A (I 1) (J 2) * A (I 2) (J 1) - A (I 0) (J 1) * A (I 1) (J 0) * A (I 2) (J 2) + A (I 0) (J 1) * A (I 1) (J 2) * A (I 2) (J 0) + A (I 0) (J 2) * A (I 1) (J 0) * A (I 2) (J 1) - A (I 0) (J 2) * A (I 1) (J 1) * A (I 2) (J 0)) * q 2 := by
    have hh := cr3_Q2 (A (I 0) (J 0)) (A (I 0) (J 1)) (A (I 0) (J 2)) (A (I 1) (J 0)) (A (I 1) (J 1)) (A (I 1) (J 2)) (A (I 2) (J 0)) (A (I 2) (J 1)) (A (I 2) (J 2)) s (q 0) (q 1) (q 2) (x 0) (x 1) (x 2) (e1 0 (by omega)) (e1 1 (by omega)) (e1 2 (by omega))
    rw [xz_3_3_2]
    push_cast
    try simp only [t00, t01, t02, t10, t11, t12, t20, t21, t22]
    first | exact hh | grind
  have X2 : ((xZ t 3 2 3 : Int) : Rat) = (0 + A (I 0) (J 0) * A (I 1) (J 1) * A (I 2) (J 2) - A (I 0) (J 0) * A (I 1) (J 2) * A (I 2) (J 1) - A (I 0) (J 1) * A (I 1) (J 0) * A (I 2) (J 2) + A (I 0) (J 1) * A (I 1) (J 2) * A (I 2) (J 0) + A (I 0) (J 2) * A (I 1) (J 0) * A (I 2) (J 1) - A (I 0) (J 2) * A (I 1) (J 1) * A (I 2) (J 0)) * x 2 := by
    have hh := cr3_X2 (A (I 0) (J 0)) (A (I 0) (J 1)) (A (I 0) (J 2)) (A (I 1) (J 0)) (A (I 1) (J 1)) (A (I 1) (J 2)) (A (I 2) (J 0)) (A (I 2) (J 1)) (A (I 2) (J 2)) s (q 0) (q 1) (q 2) (x 0) (x 1) (x 2) (e2 0 (by omega)) (e2 1 (by omega)) (e2 2 (by omega))
    rw [xz_3_2_3]
    push_cast
    try simp only [t00, t01, t02, t10, t11, t12, t20, t21, t22]
    first | exact hh | grind
  have W1 : xZ t 3 4 4 = 0 - xZ t 3 3 0 + xZ t 3 3 1 - xZ t 3 3 2 := by
    rw [xz_3_4_4, xz_3_3_0, xz_3_3_1, xz_3_3_2]; grind
  have W2 : xZ t 3 4 4 = 0 - xZ t 3 0 3 + xZ t 3 1 3 - xZ t 3 2 3 := by
    rw [xz_3_4_4, xz_3_0_3, xz_3_1_3, xz_3_2_3]; grind
  have V1 : ((xZ t 3 3 3 : Int) : Rat) = (0 + A (I 0) (J 0) * A (I 1) (J 1) * A (I 2) (J 2) - A (I 0) (J 0) * A (I 1) (J 2) * A (I 2) (J 1) - A (I 0) (J 1) * A (I 1) (J 0) * A (I 2) (J 2) + A (I 0) (J 1) * A (I 1) (J 2) * A (I 2) (J 0) + A (I 0) (J 2) * A (I 1) (J 0) * A (I 2) (J 1) - A (I 0) (J 2) * A (I 1) (J 1) * A (I 2) (J 0)) + s * ((xZ t 3 4 4 : Int) : Rat) := by
    rw [xz_3_3_3, xz_3_4_4]
    push_cast
    try simp only [t00, t01, t02, t10, t11, t12, t20, t21, t22]
    generalize A (I 0) (J 0) = a00
    generalize A (I 0) (J 1) = a01
    generalize A (I 0) (J 2) = a02
    generalize A (I 1) (J 0) = a10
    generalize A (I 1) (J 1) = a11
    generalize A (I 1) (J 2) = a12
    generalize A (I 2) (J 0) = a20
    generalize A (I 2) (J 1) = a21
    generalize A (I 2) (J 2) = a22
    grind
  have W1r : ((xZ t 3 4 4 : Int) : Rat) = -((0 + A (I 0) (J 0) * A (I 1) (J 1) * A (I 2) (J 2) - A (I 0) (J 0) * A (I 1) (J 2) * A (I 2) (J 1) - A (I 0) (J 1) * A (I 1) (J 0) * A (I 2) (J 2) + A (I 0) (J 1) * A (I 1) (J 2) * A (I 2) (J 0) + A (I 0) (J 2) * A (I 1) (J 0) * A (I 2) (J 1) - A (I 0) (J 2) * A (I 1) (J 1) * A (I 2) (J 0)) * sm 3 q) := by
    rw [W1]
    push_cast
    rw [Q0, Q1, Q2]
    simp only [sm]
    generalize 0 + A (I 0) (J 0) * A (I 1) (J 1) * A (I 2) (J 2) - A (I 0) (J 0) * A (I 1) (J 2) * A (I 2) (J 1) - A (I 0) (J 1) * A (I 1) (J 0) * A (I 2) (J 2) + A (I 0) (J 1) * A (I 1) (J 2) * A (I 2) (J 0) + A (I 0) (J 2) * A (I 1) (J 0) * A (I 2) (J 1) - A (I 0) (J 2) * A (I 1) (J 1) * A (I 2) (J 0) = d
    grind
  have W2r : ((xZ t 3 4 4 : Int) : Rat) = -((0 + A (I 0) (J 0) * A (I 1) (J 1) * A (I 2) (J 2) - A (I 0) (J 0) * A (I 1) (J 2) * A (I 2) (J 1) - A (I 0) (J 1) * A (I 1) (J 0) * A (I 2) (J 2) + A (I 0) (J 1) * A (I 1) (J 2) * A (I 2) (J 0) + A (I 0) (J 2) * A (I 1) (J 0) * A (I 2) (J 1) - A (I 0) (J 2) * A (I 1) (J 1) * A (I 2) (J 0)) * sm 3 x) := by
    rw [W2]
    push_cast
    rw [X0, X1, X2]
    simp only [sm]
    generalize 0 + A (I 0) (J 0) * A (I 1) (J 1) * A (I 2) (J 2) - A (I 0) (J 0) * A (I 1) (J 2) * A (I 2) (J 1) - A (I 0) (J 1) * A (I 1) (J 0) * A (I 2) (J 2) + A (I 0) (J 1) * A (I 1) (J 2) * A (I 2) (J 0) + A (I 0) (J 2) * A (I 1) (J 0) * A (I 2) (J 1) - A (I 0) (J 2) * A (I 1) (J 1) * A (I 2) (J 0) = d
    grind
  generalize hdd : 0 + A (I 0) (J 0) * A (I 1) (J 1) * A (I 2) (J 2) - A (I 0) (J 0) * A (I 1) (J 2) * A (I 2) (J 1) - A (I 0) (J 1) * A (I 1) (J 0) * A (I 2) (J 2) + A (I 0) (J 1) * A (I 1) (J 2) * A (I 2) (J 0) + A (I 0) (J 2) * A (I 1) (J 0) * A (I 2) (J 1) - A (I 0) (J 2) * A (I 1) (J 1) * A (I 2) (J 0) = d at *
  refine ⟨d, hd, fun k hk => ?_, fun k hk => ?_, W1r, ?_, ?_⟩
  · rcases (by omega : k = 0 ∨ k = 1 ∨ k = 2) with rfl | rfl | rfl
    · exact Q0
    · exact Q1
    · exact Q2
  · rcases (by omega : k = 0 ∨ k = 1 ∨ k = 2) with rfl | rfl | rfl
    · exact X0
    · exact X1
    · exact X2
  · rw [V1, W1r]; grind
  · rw [W1r] at W2r
    have h2 : d * (sm 3 q - sm 3 x) = 0 := by grind
    rcases Rat.mul_eq_zero.mp h2 with h3 | h3
    · exact absurd h3 hd
    · grind
