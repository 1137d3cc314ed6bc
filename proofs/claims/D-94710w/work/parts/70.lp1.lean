/-! THE TABLEAU of whole numbers: m rows and an aim below them; columns A c; the base's columns and the aim's unit are the frame; what stands in the tableau are determinants -/
def sx_s (f : Nat → Int) : Nat → Int
  | 0 => 0
  | q + 1 => sx_s f q + f q
theorem sx_s_congr {f g : Nat → Int} {q : Nat} (h : ∀ j, j < q → f j = g j) : sx_s f q = sx_s g q := by
  induction q with
  | zero => rfl
  | succ q ih => simp only [sx_s]; rw [ih (fun j hj => h j (by omega)), h q (by omega)]
theorem sx_s_0 {f : Nat → Int} {q : Nat} (h : ∀ j, j < q → f j = 0) : sx_s f q = 0 := by
  induction q with
  | zero => rfl
  | succ q ih => simp only [sx_s]; rw [ih (fun j hj => h j (by omega)), h q (by omega)]; rfl
theorem sx_s_1 {f : Nat → Int} {q i : Nat} (hi : i < q) (h : ∀ j, j < q → j ≠ i → f j = 0) : sx_s f q = f i := by
  induction q with
  | zero => omega
  | succ q ih =>
    simp only [sx_s]
    by_cases c : i = q
    · subst c; rw [sx_s_0 (fun j hj => h j (by omega) (by omega))]; omega
    · rw [ih (by omega) (fun j hj hn => h j (by omega) hn), h q (by omega) (by omega)]; omega
theorem sx_s_2 {f : Nat → Int} {q i k : Nat} (hi : i < q) (hk : k < q) (hik : i ≠ k) (h : ∀ j, j < q → j ≠ i → j ≠ k → f j = 0) : sx_s f q = f i + f k := by
  induction q with
  | zero => omega
  | succ q ih =>
    simp only [sx_s]
    by_cases c : i = q
    · subst c; rw [sx_s_1 (i := k) (by omega) (fun j hj hn => h j (by omega) (by omega) hn)]; omega
    · by_cases c2 : k = q
      · subst c2; rw [sx_s_1 (i := i) (by omega) (fun j hj hn => h j (by omega) hn (by omega))]
      · rw [ih (by omega) (by omega) (fun j hj h1 h2 => h j (by omega) h1 h2), h q (by omega) (by omega) (by omega)]; omega
theorem sx_s_add {f g : Nat → Int} {q : Nat} : sx_s (fun j => f j + g j) q = sx_s f q + sx_s g q := by
  induction q with
  | zero => rfl
  | succ q ih => simp only [sx_s]; rw [ih]; omega
theorem sx_s_mul {f : Nat → Int} {a : Int} {q : Nat} : sx_s (fun j => a * f j) q = a * sx_s f q := by
  induction q with
  | zero => simp [sx_s]
  | succ q ih => simp only [sx_s]; rw [ih]; grind
theorem sx_s_nn {f : Nat → Int} {q : Nat} (h : ∀ j, j < q → 0 ≤ f j) : 0 ≤ sx_s f q := by
  induction q with
  | zero => exact Int.le_refl _
  | succ q ih => simp only [sx_s]; have := ih (fun j hj => h j (by omega)); have := h q (by omega); omega
theorem sx_s_np {f : Nat → Int} {q : Nat} (h : ∀ j, j < q → f j ≤ 0) : sx_s f q ≤ 0 := by
  induction q with
  | zero => exact Int.le_refl _
  | succ q ih => simp only [sx_s]; have := ih (fun j hj => h j (by omega)); have := h q (by omega); omega
theorem sx_s_le {f g : Nat → Int} {q : Nat} (h : ∀ j, j < q → f j ≤ g j) : sx_s f q ≤ sx_s g q := by
  induction q with
  | zero => exact Int.le_refl _
  | succ q ih => simp only [sx_s]; have := ih (fun j hj => h j (by omega)); have := h q (by omega); omega
theorem sx_s_ex {f : Nat → Int} {q : Nat} (h : 0 < sx_s f q) : ∃ j, j < q ∧ 0 < f j := by
  apply Decidable.byContradiction
  intro c
  have : sx_s f q ≤ 0 := sx_s_np fun j hj => by
    apply Decidable.byContradiction
    intro c2
    exact c ⟨j, hj, by omega⟩
  omega
theorem sx_s_app {f : Nat → Int} {p q : Nat} : sx_s f (p + q) = sx_s f p + sx_s (fun j => f (p + j)) q := by
  induction q with
  | zero => simp [sx_s]
  | succ q ih => rw [← Nat.add_assoc]; simp only [sx_s]; rw [ih]; omega
theorem sx_s_swap {f : Nat → Nat → Int} {p q : Nat} : sx_s (fun i => sx_s (fun j => f i j) q) p = sx_s (fun j => sx_s (fun i => f i j) p) q := by
  induction p with
  | zero => simp only [sx_s]; exact (sx_s_0 fun _ _ => rfl).symm
  | succ p ih => simp only [sx_s]; rw [ih, sx_s_add]
theorem ex_sum_s {y : Nat → Int} {B : Nat → Nat → Int} {q i : Nat} : ex_sum y B q i = sx_s (fun j => y j * B j i) q := by
  induction q with
  | zero => rfl
  | succ q ih => simp only [ex_sum, sx_s]; rw [ih]; omega
/-- a determinant is linear in a place -/
theorem sx_lin {n i q : Nat} {B V : Nat → Nat → Int} {y : Nat → Int} (hi : i < n) : ex_det n (ex_put B i (ex_sum y V q)) = sx_s (fun j => y j * ex_det n (ex_put B i (V j))) q := by
  induction q with
  | zero =>
    have := ex_W_lin (n := n) (m := n) (B := B) (u := fun _ => 0) (v := fun _ => 0) (a := 0) (b := 0) hi _ (ex_top (n := n))
    simp only [Int.zero_mul, Int.add_zero] at this
    exact this
  | succ q ih =>
    have := ex_W_lin (n := n) (m := n) (B := B) (u := ex_sum y V q) (v := V q) (a := 1) (b := y q) hi _ (ex_top (n := n))
    simp only [sx_s]
    rw [← ih]
    show ex_W n (ex_put B i (fun c => 1 * ex_sum y V q c + y q * V q c)) n (2 ^ n - 1) = _
    rw [this, Int.one_mul]
    rfl
theorem sx_lin2 {n i : Nat} {B : Nat → Nat → Int} {u v : Nat → Int} {a b : Int} (hi : i < n) : ex_det n (ex_put B i (fun c => a * u c + b * v c)) = a * ex_det n (ex_put B i u) + b * ex_det n (ex_put B i v) :=
  ex_W_lin (n := n) (m := n) (B := B) (u := u) (v := v) (a := a) (b := b) hi _ (ex_top (n := n))
theorem sx_put_congr {n i : Nat} {B : Nat → Nat → Int} {u v : Nat → Int} (h : ∀ k, k < n → u k = v k) : ex_det n (ex_put B i u) = ex_det n (ex_put B i v) := by
  refine ex_det_congr fun j hj k hk => ?_
  by_cases c : j = i
  · subst c; rw [ex_put_eq, ex_put_eq]; exact h k hk
  · rw [ex_put_ne c, ex_put_ne c]
theorem sx_key {n i : Nat} {B B' : Nat → Nat → Int} {v : Nat → Int} (hi : i < n) : ex_det n B * ex_det n (ex_put B' i v) = sx_s (fun j => ex_det n (ex_put B j v) * ex_det n (ex_put B' i (B j))) n := by
  rw [← ex_det_smul hi, ← sx_lin hi]
  exact sx_put_congr fun k hk => ex_cramer_sum k hk
theorem sx_alt {n i j : Nat} {B : Nat → Nat → Int} (hij : i ≠ j) (hi : i < n) (hj : j < n) : ex_det n (ex_put B i (B j)) = 0 :=
  ex_W_alt (i := i) (j := j) hij hi hj (by rw [ex_put_eq, ex_put_ne (Ne.symm hij)]) _ ex_top
theorem ex_put_put {B : Nat → Nat → Int} {i : Nat} {v w : Nat → Int} : ex_put (ex_put B i v) i w = ex_put B i w := by
  funext j
  by_cases c : j = i
  · subst c; rw [ex_put_eq, ex_put_eq]
  · rw [ex_put_ne c, ex_put_ne c, ex_put_ne c]
theorem sx_pivot {n r row : Nat} {B : Nat → Nat → Int} {v w : Nat → Int} (hr : r < n) (hrow : row < n) (hne : r ≠ row) : ex_det n (ex_put (ex_put B row v) r w) * ex_det n B = ex_det n (ex_put B r w) * ex_det n (ex_put B row v) - ex_det n (ex_put B r v) * ex_det n (ex_put B row w) := by
  have h := sx_key (B := ex_put B row v) (B' := B) (v := w) hr
  rw [sx_s_2 hr hrow hne (fun j hj h1 h2 => by
    rw [ex_put_ne h2, sx_alt (fun q => h1 q.symm) hr hj]; omega)] at h
  rw [ex_put_put, ex_put_eq, ex_put_ne hne, ex_put_self] at h
  grind
def sx_e (m : Nat) : Nat → Int := fun i => if i = m then 1 else 0
def sx_B (A : Nat → Nat → Int) (m : Nat) (b : Nat → Nat) : Nat → Nat → Int := fun j => if j = m then sx_e m else A (b j)
def sx_D (A : Nat → Nat → Int) (m : Nat) (b : Nat → Nat) : Int := ex_det (m + 1) (sx_B A m b)
def sx_t (A : Nat → Nat → Int) (m : Nat) (b : Nat → Nat) (r c : Nat) : Int := ex_det (m + 1) (ex_put (sx_B A m b) r (A c))
def sx_p (b : Nat → Nat) (row col : Nat) : Nat → Nat := fun j => if j = row then col else b j
theorem sx_p_eq {b : Nat → Nat} {row col : Nat} : sx_p b row col row = col := if_pos rfl
theorem sx_p_ne {b : Nat → Nat} {row col j : Nat} (h : j ≠ row) : sx_p b row col j = b j := if_neg h
section SX
variable {A : Nat → Nat → Int} {m W : Nat} {b : Nat → Nat}
theorem sx_B_lt {j : Nat} (h : j < m) : sx_B A m b j = A (b j) := by unfold sx_B; rw [if_neg (by omega)]
theorem sx_B_m : sx_B A m b m = sx_e m := by unfold sx_B; rw [if_pos rfl]
theorem sx_B_p {row col : Nat} (h : row < m) : sx_B A m (sx_p b row col) = ex_put (sx_B A m b) row (A col) := by
  funext j
  by_cases c : j = row
  · subst c; rw [ex_put_eq, sx_B_lt h, sx_p_eq]
  · rw [ex_put_ne c]
    unfold sx_B
    rw [sx_p_ne c]
theorem sx_D_p {row col : Nat} (h : row < m) : sx_D A m (sx_p b row col) = sx_t A m b row col := by unfold sx_D sx_t; rw [sx_B_p h]
theorem sx_t_row {row col c : Nat} (h : row < m) : sx_t A m (sx_p b row col) row c = sx_t A m b row c := by unfold sx_t; rw [sx_B_p h, ex_put_put]
theorem sx_t_p {row col r c : Nat} (h : row < m) (hr : r ≤ m) (hne : r ≠ row) : sx_t A m (sx_p b row col) r c * sx_D A m b = sx_t A m b r c * sx_t A m b row col - sx_t A m b r col * sx_t A m b row c := by
  unfold sx_t sx_D
  rw [sx_B_p h]
  exact sx_pivot (by omega) (by omega) hne
theorem sx_t_self {j : Nat} (hj : j < m) : sx_t A m b j (b j) = sx_D A m b := by
  unfold sx_t sx_D
  rw [← sx_B_lt (A := A) (b := b) hj, ex_put_self]
theorem sx_t_other {r j : Nat} (hj : j < m) (hr : r ≤ m) (hne : r ≠ j) : sx_t A m b r (b j) = 0 := by
  unfold sx_t
  rw [← sx_B_lt (A := A) (b := b) hj]
  exact sx_alt hne (by omega) (by omega)
theorem sx_inj (hD : 0 < sx_D A m b) {i j : Nat} (hi : i < m) (hj : j < m) (e : b i = b j) : i = j := by
  apply Decidable.byContradiction
  intro c
  have h1 := sx_t_self (A := A) (b := b) hi
  rw [e, sx_t_other hj (by omega) c] at h1
  omega
theorem sx_two {b' : Nat → Nat} {s : Nat} : sx_D A m b * sx_t A m b' m s = sx_s (fun r => sx_t A m b r s * sx_t A m b' m (b r)) m + sx_t A m b m s * sx_D A m b' := by
  have h := sx_key (n := m + 1) (i := m) (B := sx_B A m b) (B' := sx_B A m b') (v := A s) (by omega)
  simp only [sx_s] at h
  unfold sx_D sx_t
  rw [h]
  have e1 : ex_put (sx_B A m b') m (sx_B A m b m) = sx_B A m b' := by
    rw [sx_B_m]
    have := ex_put_self (B := sx_B A m b') (i := m)
    rw [sx_B_m] at this
    exact this
  rw [e1]
  congr 1
  exact sx_s_congr fun j hj => by rw [sx_B_lt hj]
/-- a column by the base's columns -/
theorem sx_col {s i : Nat} (hi : i ≤ m) : sx_D A m b * A s i = sx_s (fun r => sx_t A m b r s * A (b r) i) m + sx_t A m b m s * sx_e m i := by
  have h := ex_cramer_sum (n := m + 1) (B := sx_B A m b) (v := A s) i (by omega)
  rw [ex_sum_s] at h
  simp only [sx_s] at h
  unfold sx_D sx_t
  rw [h, sx_B_m]
  congr 1
  exact sx_s_congr fun j hj => by rw [sx_B_lt hj]
/-- what a solution's aim is -/
theorem sx_sol {y : Nat → Int} {E : Int} (hy : ∀ i, i < m → sx_s (fun c => y c * A c i) W = E * A W i) (h0 : A W m = 0) : sx_s (fun c => y c * sx_t A m b m c) W = E * sx_t A m b m W + sx_D A m b * sx_s (fun c => y c * A c m) W := by
  have h1 := sx_lin (n := m + 1) (i := m) (q := W) (B := sx_B A m b) (V := A) (y := y) (by omega)
  have h2 : ex_det (m + 1) (ex_put (sx_B A m b) m (ex_sum y A W)) = ex_det (m + 1) (ex_put (sx_B A m b) m (fun i => E * A W i + sx_s (fun c => y c * A c m) W * sx_e m i)) := by
    refine sx_put_congr fun i hi => ?_
    rw [ex_sum_s]
    unfold sx_e
    by_cases c : i = m
    · subst c; rw [if_pos rfl, h0]; omega
    · rw [if_neg c, hy i (by omega)]; omega
  rw [sx_lin2 (by omega)] at h2
  have e1 : ex_put (sx_B A m b) m (sx_e m) = sx_B A m b := by
    have := ex_put_self (B := sx_B A m b) (i := m)
    rw [sx_B_m] at this
    exact this
  rw [e1, h1] at h2
  unfold sx_t sx_D
  rw [h2]
  grind
/-- a base as it must be -/
def sx_ok (A : Nat → Nat → Int) (m W : Nat) (b : Nat → Nat) : Prop := 0 < sx_D A m b ∧ (∀ r, r < m → b r < W) ∧ ∀ r, r < m → 0 ≤ sx_t A m b r W
/-- the column that comes in; the row that goes; a turn -/
def sx_ent (A : Nat → Nat → Int) (m W : Nat) (fr : Nat → Bool) (b : Nat → Nat) (s : Nat) : Prop := s < W ∧ fr s = true ∧ sx_t A m b m s < 0 ∧ ∀ c, c < s → fr c = true → 0 ≤ sx_t A m b m c
def sx_lea (A : Nat → Nat → Int) (m W : Nat) (b : Nat → Nat) (s r : Nat) : Prop := r < m ∧ 0 < sx_t A m b r s ∧ ∀ i, i < m → 0 < sx_t A m b i s → sx_t A m b r W * sx_t A m b i s ≤ sx_t A m b i W * sx_t A m b r s ∧ (sx_t A m b r W * sx_t A m b i s = sx_t A m b i W * sx_t A m b r s → b r ≤ b i)
def sx_st (A : Nat → Nat → Int) (m W : Nat) (fr : Nat → Bool) (b b' : Nat → Nat) : Prop := ∃ s r, sx_ent A m W fr b s ∧ sx_lea A m W b s r ∧ b' = sx_p b r s
theorem sx_st_ok {fr : Nat → Bool} {b' : Nat → Nat} (h : sx_ok A m W b) (hs : sx_st A m W fr b b') : sx_ok A m W b' := by
  obtain ⟨s, r, ⟨e1, e2, e3, e4⟩, ⟨l1, l2, l3⟩, rfl⟩ := hs
  obtain ⟨h1, h2, h3⟩ := h
  refine ⟨by rw [sx_D_p l1]; exact l2, fun i hi => ?_, fun i hi => ?_⟩
  · by_cases c : i = r
    · rw [c, sx_p_eq]; exact e1
    · rw [sx_p_ne c]; exact h2 i hi
  · by_cases c : i = r
    · rw [c, sx_t_row l1]; exact h3 r l1
    · have h := sx_t_p (A := A) (b := b) (col := s) (c := W) l1 (Nat.le_of_lt hi) c
      have h4 : 0 ≤ sx_t A m (sx_p b r s) i W * sx_D A m b := by
        rw [h]
        by_cases c2 : 0 < sx_t A m b i s
        · have := (l3 i hi c2).1
          have e := Int.mul_comm (sx_t A m b i s) (sx_t A m b r W)
          omega
        · have h5 := Int.mul_nonneg (h3 i hi) (Int.le_of_lt l2)
          have h6 := Int.mul_nonneg (show 0 ≤ - sx_t A m b i s by omega) (h3 r l1)
          rw [Int.neg_mul] at h6
          omega
      apply Decidable.byContradiction
      intro c3
      have := Int.mul_neg_of_neg_of_pos (show sx_t A m (sx_p b r s) i W < 0 by omega) h1
      omega
/-- without a bound there is no column to come in -/
theorem sx_bdd {s : Nat} (h : sx_ok A m W b) (hA : ∀ r c, r < m → c < W → 0 ≤ A c r) (hs : s < W) (hp : ∃ i, i < m ∧ 0 < A s i) : ∃ r, r < m ∧ 0 < sx_t A m b r s := by
  apply Decidable.byContradiction
  intro c
  obtain ⟨i, hi, hp⟩ := hp
  have h1 := sx_col (A := A) (b := b) (s := s) (i := i) (Nat.le_of_lt hi)
  have h2 : sx_s (fun r => sx_t A m b r s * A (b r) i) m ≤ 0 := by
    refine sx_s_np fun r hr => ?_
    have h3 : sx_t A m b r s ≤ 0 := by
      apply Decidable.byContradiction
      intro c2
      exact c ⟨r, hr, by omega⟩
    exact Int.mul_nonpos_of_nonpos_of_nonneg h3 (hA i (b r) hi (h.2.1 r hr))
  have h3 := Int.mul_pos h.1 hp
  unfold sx_e at h1
  rw [if_neg (by omega)] at h1
  omega
end SX
