/-! EXTERIOR ALGEBRA over the whole numbers: a form is a row of 2^n numbers, cut in halves -/
def ex_lo (t : Nat → Int) : Nat → Int := t
def ex_hi (n : Nat) (t : Nat → Int) : Nat → Int := fun k => t (k + 2 ^ n)
/-- wedge by a vector -/
def ex_w : Nat → (Nat → Int) → (Nat → Int) → (Nat → Int)
  | 0, _, _ => fun _ => 0
  | n + 1, v, t => fun k => if k < 2 ^ n then ex_w n v t k else v n * t (k - 2 ^ n) - ex_w n v (fun j => t (j + 2 ^ n)) (k - 2 ^ n)
/-- contraction by a vector -/
def ex_c : Nat → (Nat → Int) → (Nat → Int) → (Nat → Int)
  | 0, _, _ => fun _ => 0
  | n + 1, v, t => fun k => if k < 2 ^ n then ex_c n v t k + v n * t (k + 2 ^ n) else - ex_c n v (fun j => t (j + 2 ^ n)) (k - 2 ^ n)
/-- equal on the first 2^n -/
def ex_eq (n : Nat) (s t : Nat → Int) : Prop := ∀ k, k < 2 ^ n → s k = t k
theorem ex_w_lo {n : Nat} {v t : Nat → Int} {k : Nat} (h : k < 2 ^ n) : ex_w (n + 1) v t k = ex_w n v t k := by rw [ex_w]; exact if_pos h
theorem ex_w_hi {n : Nat} {v t : Nat → Int} {k : Nat} : ex_w (n + 1) v t (k + 2 ^ n) = v n * t k - ex_w n v (fun j => t (j + 2 ^ n)) k := by
  rw [ex_w]; dsimp only; rw [if_neg (by omega)]; simp
theorem ex_c_lo {n : Nat} {v t : Nat → Int} {k : Nat} (h : k < 2 ^ n) : ex_c (n + 1) v t k = ex_c n v t k + v n * t (k + 2 ^ n) := by rw [ex_c]; exact if_pos h
theorem ex_c_hi {n : Nat} {v t : Nat → Int} {k : Nat} : ex_c (n + 1) v t (k + 2 ^ n) = - ex_c n v (fun j => t (j + 2 ^ n)) k := by
  rw [ex_c]; dsimp only; rw [if_neg (by omega)]; simp
theorem ex_half {n k : Nat} (h : k < 2 ^ (n + 1)) : k < 2 ^ n ∨ ∃ j, j < 2 ^ n ∧ k = j + 2 ^ n := by
  by_cases c : k < 2 ^ n
  · exact Or.inl c
  · exact Or.inr ⟨k - 2 ^ n, by rw [Nat.pow_succ] at h; omega, by omega⟩
theorem ex_eq_succ {n : Nat} {s t : Nat → Int} (h1 : ex_eq n s t) (h2 : ex_eq n (fun j => s (j + 2 ^ n)) (fun j => t (j + 2 ^ n))) : ex_eq (n + 1) s t := by
  intro k hk
  rcases ex_half hk with c | ⟨j, hj, rfl⟩
  · exact h1 k c
  · exact h2 j hj
theorem ex_eq_lo {n : Nat} {s t : Nat → Int} (h : ex_eq (n + 1) s t) : ex_eq n s t := fun k hk => h k (by rw [Nat.pow_succ]; omega)
theorem ex_eq_hi {n : Nat} {s t : Nat → Int} (h : ex_eq (n + 1) s t) : ex_eq n (fun j => s (j + 2 ^ n)) (fun j => t (j + 2 ^ n)) := fun k hk => h (k + 2 ^ n) (by rw [Nat.pow_succ]; omega)
theorem ex_w_congr {n : Nat} {v v' s t : Nat → Int} (hv : ∀ i, i < n → v i = v' i) (h : ex_eq n s t) : ex_eq n (ex_w n v s) (ex_w n v' t) := by
  induction n generalizing s t with
  | zero => intro k _; rfl
  | succ n ih =>
    refine ex_eq_succ ?_ ?_
    · intro k hk
      rw [ex_w_lo hk, ex_w_lo hk]
      exact ih (fun i hi => hv i (by omega)) (ex_eq_lo h) k hk
    · intro k hk
      dsimp only
      rw [ex_w_hi, ex_w_hi, hv n (by omega), ex_eq_lo h k hk, ih (fun i hi => hv i (by omega)) (ex_eq_hi h) k hk]
theorem ex_w_add {n : Nat} {v s t : Nat → Int} (k : Nat) (hk : k < 2 ^ n) : ex_w n v (fun k => s k + t k) k = ex_w n v s k + ex_w n v t k := by
  induction n generalizing s t k with
  | zero => rfl
  | succ n ih =>
    rcases ex_half hk with hk | ⟨k, hj, rfl⟩
    · rw [ex_w_lo hk, ex_w_lo hk, ex_w_lo hk]
      exact ih k hk
    · clear hk
      have hk := hj
      rw [ex_w_hi, ex_w_hi, ex_w_hi, ih k hk]
      grind
theorem ex_w_smul {n : Nat} {v t : Nat → Int} {a : Int} (k : Nat) (hk : k < 2 ^ n) : ex_w n v (fun k => a * t k) k = a * ex_w n v t k := by
  induction n generalizing t k with
  | zero => simp [ex_w]
  | succ n ih =>
    rcases ex_half hk with hk | ⟨k, hj, rfl⟩
    · rw [ex_w_lo hk, ex_w_lo hk]
      exact ih k hk
    · clear hk
      have hk := hj
      rw [ex_w_hi, ex_w_hi, ih k hk]
      grind
theorem ex_w_vadd {n : Nat} {u v t : Nat → Int} {a b : Int} (k : Nat) (hk : k < 2 ^ n) : ex_w n (fun i => a * u i + b * v i) t k = a * ex_w n u t k + b * ex_w n v t k := by
  induction n generalizing t k with
  | zero => simp [ex_w]
  | succ n ih =>
    rcases ex_half hk with hk | ⟨k, hj, rfl⟩
    · rw [ex_w_lo hk, ex_w_lo hk, ex_w_lo hk]
      exact ih k hk
    · clear hk
      have hk := hj
      rw [ex_w_hi, ex_w_hi, ex_w_hi, ih k hk]
      grind
theorem ex_w_neg {n : Nat} {v t : Nat → Int} (k : Nat) (hk : k < 2 ^ n) : ex_w n v (fun k => - t k) k = - ex_w n v t k := by
  have := ex_w_smul (n := n) (v := v) (t := t) (a := -1) k hk
  have e : (fun k => -1 * t k) = (fun k => - t k) := by funext k; omega
  rw [e] at this
  rw [this]; omega
/-- u v = - v u -/
theorem ex_w_anti {n : Nat} {u v t : Nat → Int} (k : Nat) (hk : k < 2 ^ n) : ex_w n u (ex_w n v t) k = - ex_w n v (ex_w n u t) k := by
  induction n generalizing t k with
  | zero => rfl
  | succ n ih =>
    rcases ex_half hk with hk | ⟨k, hj, rfl⟩
    · rw [ex_w_lo hk, ex_w_lo hk]
      have h1 := ex_w_congr (v := u) (v' := u) (fun _ _ => rfl) (fun k hk => ex_w_lo (v := v) (t := t) hk) k hk
      have h2 := ex_w_congr (v := v) (v' := v) (fun _ _ => rfl) (fun k hk => ex_w_lo (v := u) (t := t) hk) k hk
      rw [h1, h2]
      exact ih k hk
    · clear hk
      have hk := hj
      rw [ex_w_hi, ex_w_hi, ex_w_lo hk, ex_w_lo hk]
      have h1 : ex_w n u (fun j => ex_w (n + 1) v t (j + 2 ^ n)) k = v n * ex_w n u t k - ex_w n u (ex_w n v (fun j => t (j + 2 ^ n))) k := by
        have e : (fun j => ex_w (n + 1) v t (j + 2 ^ n)) = (fun j => (v n * t j) + (- ex_w n v (fun j => t (j + 2 ^ n)) j)) := by
          funext j; rw [ex_w_hi]; omega
        rw [e, ex_w_add k hk, ex_w_smul k hk, ex_w_neg k hk]; omega
      have h2 : ex_w n v (fun j => ex_w (n + 1) u t (j + 2 ^ n)) k = u n * ex_w n v t k - ex_w n v (ex_w n u (fun j => t (j + 2 ^ n))) k := by
        have e : (fun j => ex_w (n + 1) u t (j + 2 ^ n)) = (fun j => (u n * t j) + (- ex_w n u (fun j => t (j + 2 ^ n)) j)) := by
          funext j; rw [ex_w_hi]; omega
        rw [e, ex_w_add k hk, ex_w_smul k hk, ex_w_neg k hk]; omega
      rw [h1, h2, ih k hk]
      omega
theorem ex_w_self {n : Nat} {v t : Nat → Int} (k : Nat) (hk : k < 2 ^ n) : ex_w n v (ex_w n v t) k = 0 := by
  have := ex_w_anti (u := v) (v := v) (t := t) k hk
  omega
theorem ex_c_congr {n : Nat} {v s t : Nat → Int} (h : ex_eq n s t) : ex_eq n (ex_c n v s) (ex_c n v t) := by
  induction n generalizing s t with
  | zero => intro k _; rfl
  | succ n ih =>
    refine ex_eq_succ ?_ ?_
    · intro k hk
      rw [ex_c_lo hk, ex_c_lo hk, ih (ex_eq_lo h) k hk]
      have := ex_eq_hi h k hk
      dsimp only at this
      rw [this]
    · intro k hk
      dsimp only
      rw [ex_c_hi, ex_c_hi, ih (ex_eq_hi h) k hk]
theorem ex_c_add {n : Nat} {v s t : Nat → Int} {a b : Int} (k : Nat) (hk : k < 2 ^ n) : ex_c n v (fun k => a * s k + b * t k) k = a * ex_c n v s k + b * ex_c n v t k := by
  induction n generalizing s t k with
  | zero => simp [ex_c]
  | succ n ih =>
    rcases ex_half hk with hk | ⟨k, hj, rfl⟩
    · rw [ex_c_lo hk, ex_c_lo hk, ex_c_lo hk, ih k hk]
      grind
    · clear hk
      have hk := hj
      rw [ex_c_hi, ex_c_hi, ex_c_hi, ih k hk]
      grind
/-- the dot product of vectors and of forms -/
def ex_dot : Nat → (Nat → Int) → (Nat → Int) → Int
  | 0, _, _ => 0
  | n + 1, u, v => ex_dot n u v + u n * v n
theorem ex_dot_add {n : Nat} {u v w : Nat → Int} {a b : Int} : ex_dot n u (fun k => a * v k + b * w k) = a * ex_dot n u v + b * ex_dot n u w := by
  induction n with
  | zero => simp [ex_dot]
  | succ n ih => simp only [ex_dot]; rw [ih]; grind
theorem ex_dot_comm {n : Nat} {u v : Nat → Int} : ex_dot n u v = ex_dot n v u := by
  induction n with
  | zero => rfl
  | succ n ih => simp only [ex_dot]; rw [ih]; grind
theorem ex_dot_congr {n : Nat} {u u' v v' : Nat → Int} (h1 : ∀ i, i < n → u i = u' i) (h2 : ∀ i, i < n → v i = v' i) : ex_dot n u v = ex_dot n u' v' := by
  induction n with
  | zero => rfl
  | succ n ih => simp only [ex_dot]; rw [ih (fun i hi => h1 i (by omega)) (fun i hi => h2 i (by omega)), h1 n (by omega), h2 n (by omega)]
theorem ex_dot_app {m n : Nat} {u v : Nat → Int} : ex_dot (m + n) u v = ex_dot m u v + ex_dot n (fun j => u (j + m)) (fun j => v (j + m)) := by
  induction n with
  | zero => simp [ex_dot]
  | succ n ih =>
    rw [← Nat.add_assoc]
    simp only [ex_dot]
    rw [ih, Nat.add_comm n m]; omega
theorem ex_dot_half {n : Nat} {u v : Nat → Int} : ex_dot (2 ^ (n + 1)) u v = ex_dot (2 ^ n) u v + ex_dot (2 ^ n) (fun j => u (j + 2 ^ n)) (fun j => v (j + 2 ^ n)) := by
  rw [Nat.pow_succ, Nat.mul_two]; exact ex_dot_app
theorem ex_sq (a : Int) : 0 ≤ a * a := by
  rcases Int.le_total 0 a with c | c
  · exact Int.mul_nonneg c c
  · exact Int.mul_nonneg_of_nonpos_of_nonpos c c
theorem ex_dot_nn {n : Nat} {u : Nat → Int} : 0 ≤ ex_dot n u u := by
  induction n with
  | zero => exact Int.le_refl _
  | succ n ih => simp only [ex_dot]; have := ex_sq (u n); omega
/-- wedge and contraction are adjoint -/
theorem ex_adj {n : Nat} {v s t : Nat → Int} : ex_dot (2 ^ n) (ex_w n v s) t = ex_dot (2 ^ n) s (ex_c n v t) := by
  induction n generalizing s t with
  | zero => simp [ex_dot, ex_w, ex_c]
  | succ n ih =>
    rw [ex_dot_half, ex_dot_half]
    have h1 : ex_dot (2 ^ n) (ex_w (n + 1) v s) t = ex_dot (2 ^ n) s (ex_c n v t) := by
      rw [← ih]; exact ex_dot_congr (fun i hi => ex_w_lo hi) (fun _ _ => rfl)
    have h2 : ex_dot (2 ^ n) s (ex_c (n + 1) v t) = ex_dot (2 ^ n) s (ex_c n v t) + v n * ex_dot (2 ^ n) s (fun j => t (j + 2 ^ n)) := by
      have e := ex_dot_add (n := 2 ^ n) (u := s) (v := ex_c n v t) (w := fun j => t (j + 2 ^ n)) (a := 1) (b := v n)
      rw [Int.one_mul] at e
      rw [← e]; exact ex_dot_congr (fun _ _ => rfl) (fun i hi => by rw [ex_c_lo hi]; omega)
    have h3 : ex_dot (2 ^ n) (fun j => ex_w (n + 1) v s (j + 2 ^ n)) (fun j => t (j + 2 ^ n)) = v n * ex_dot (2 ^ n) s (fun j => t (j + 2 ^ n)) - ex_dot (2 ^ n) (fun j => s (j + 2 ^ n)) (ex_c n v (fun j => t (j + 2 ^ n))) := by
      rw [← ih, ex_dot_comm, ex_dot_comm (u := s), ex_dot_comm (v := fun j => t (j + 2 ^ n))]
      have e := ex_dot_add (n := 2 ^ n) (u := fun j => t (j + 2 ^ n)) (v := s) (w := ex_w n v (fun j => s (j + 2 ^ n))) (a := v n) (b := -1)
      rw [show ∀ a b : Int, a + -1 * b = a - b from fun a b => by omega] at e
      rw [← e]; exact ex_dot_congr (fun _ _ => rfl) (fun i hi => by rw [ex_w_hi]; omega)
    have h4 : ex_dot (2 ^ n) (fun j => s (j + 2 ^ n)) (fun j => ex_c (n + 1) v t (j + 2 ^ n)) = - ex_dot (2 ^ n) (fun j => s (j + 2 ^ n)) (ex_c n v (fun j => t (j + 2 ^ n))) := by
      have e := ex_dot_add (n := 2 ^ n) (u := fun j => s (j + 2 ^ n)) (v := ex_c n v (fun j => t (j + 2 ^ n))) (w := fun _ => 0) (a := -1) (b := 0)
      rw [show ∀ a b : Int, -1 * a + 0 * b = -a from fun a b => by omega] at e
      rw [← e]; exact ex_dot_congr (fun _ _ => rfl) (fun i hi => by rw [ex_c_hi]; omega)
    rw [h1, h2, h3, h4]; omega
/-- contraction and wedge: c_u (v t) + v (c_u t) = (u . v) t -/
theorem ex_cw {n : Nat} {u v t : Nat → Int} (k : Nat) (hk : k < 2 ^ n) : ex_c n u (ex_w n v t) k + ex_w n v (ex_c n u t) k = ex_dot n u v * t k := by
  induction n generalizing t k with
  | zero => simp [ex_c, ex_w, ex_dot]
  | succ n ih =>
    rcases ex_half hk with hk | ⟨k, hj, rfl⟩
    · rw [ex_c_lo hk, ex_w_lo hk, ex_w_hi]
      have h1 := ex_c_congr (v := u) (fun k hk => ex_w_lo (v := v) (t := t) hk) k hk
      have h2 : ex_w n v (ex_c (n + 1) u t) k = ex_w n v (ex_c n u t) k + u n * ex_w n v (fun j => t (j + 2 ^ n)) k := by
        have e := ex_w_congr (v := v) (v' := v) (fun _ _ => rfl) (fun k hk => ex_c_lo (v := u) (t := t) hk) k hk
        rw [e, ex_w_add k hk, ex_w_smul k hk]
      rw [h1, h2]
      have := ih (t := t) k hk
      simp only [ex_dot]
      grind
    · clear hk
      have hk := hj
      rw [ex_c_hi, ex_w_hi, ex_c_lo hk]
      have h1 : ex_c n u (fun j => ex_w (n + 1) v t (j + 2 ^ n)) k = v n * ex_c n u t k - ex_c n u (ex_w n v (fun j => t (j + 2 ^ n))) k := by
        have e : (fun j => ex_w (n + 1) v t (j + 2 ^ n)) = (fun j => v n * t j + (-1) * ex_w n v (fun j => t (j + 2 ^ n)) j) := by
          funext j; rw [ex_w_hi]; omega
        rw [e, ex_c_add k hk]; omega
      have h2 : ex_w n v (fun j => ex_c (n + 1) u t (j + 2 ^ n)) k = - ex_w n v (ex_c n u (fun j => t (j + 2 ^ n))) k := by
        have e : (fun j => ex_c (n + 1) u t (j + 2 ^ n)) = (fun j => - ex_c n u (fun j => t (j + 2 ^ n)) j) := by
          funext j; rw [ex_c_hi]
        rw [e, ex_w_neg k hk]
      rw [h1, h2]
      have := ih (t := fun j => t (j + 2 ^ n)) k hk
      simp only [ex_dot]
      grind
/-- |v t|^2 <= |v|^2 |t|^2 -/
theorem ex_norm {n : Nat} {v t : Nat → Int} : ex_dot (2 ^ n) (ex_w n v t) (ex_w n v t) ≤ ex_dot n v v * ex_dot (2 ^ n) t t := by
  have h1 := ex_adj (n := n) (v := v) (s := t) (t := ex_w n v t)
  have h2 := ex_adj (n := n) (v := v) (s := ex_c n v t) (t := t)
  have h3 : ex_dot (2 ^ n) t (fun k => ex_c n v (ex_w n v t) k + ex_w n v (ex_c n v t) k) = ex_dot (2 ^ n) t (fun k => ex_dot n v v * t k) := ex_dot_congr (fun _ _ => rfl) ex_cw
  have h4 := ex_dot_add (n := 2 ^ n) (u := t) (v := ex_c n v (ex_w n v t)) (w := ex_w n v (ex_c n v t)) (a := 1) (b := 1)
  have h5 := ex_dot_add (n := 2 ^ n) (u := t) (v := t) (w := t) (a := ex_dot n v v) (b := 0)
  simp only [Int.one_mul, Int.zero_mul, Int.add_zero] at h4 h5
  rw [h4, h5, ← h1, ex_dot_comm (u := t) (v := ex_w n v (ex_c n v t)), h2] at h3
  have h6 := ex_dot_nn (n := 2 ^ n) (u := ex_c n v t)
  omega
