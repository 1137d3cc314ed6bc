/-! DETERMINANTS: vectors B 0 .. B (m-1) wedged together -/
def ex_1 : Nat → Int := fun k => if k = 0 then 1 else 0
def ex_W (n : Nat) (B : Nat → Nat → Int) : Nat → Nat → Int
  | 0 => ex_1
  | m + 1 => ex_w n (B m) (ex_W n B m)
def ex_det (n : Nat) (B : Nat → Nat → Int) : Int := ex_W n B n (2 ^ n - 1)
def ex_put (B : Nat → Nat → Int) (i : Nat) (v : Nat → Int) : Nat → Nat → Int := fun j => if j = i then v else B j
theorem ex_put_eq {B : Nat → Nat → Int} {i : Nat} {v : Nat → Int} : ex_put B i v i = v := if_pos rfl
theorem ex_put_ne {B : Nat → Nat → Int} {i j : Nat} {v : Nat → Int} (h : j ≠ i) : ex_put B i v j = B j := if_neg h
theorem ex_put_self {B : Nat → Nat → Int} {i : Nat} : ex_put B i (B i) = B := by
  funext j; by_cases c : j = i
  · rw [c, ex_put_eq]
  · rw [ex_put_ne c]
theorem ex_W_congr {n m : Nat} {B B' : Nat → Nat → Int} (h : ∀ j, j < m → ∀ i, i < n → B j i = B' j i) : ex_eq n (ex_W n B m) (ex_W n B' m) := by
  induction m with
  | zero => intro k _; rfl
  | succ m ih => exact ex_w_congr (h m (by omega)) (ih fun j hj => h j (by omega))
theorem ex_w_zero {n : Nat} {v t : Nat → Int} (h : ∀ k, k < 2 ^ n → t k = 0) : ∀ k, k < 2 ^ n → ex_w n v t k = 0 := by
  intro k hk
  have h1 := ex_w_congr (v := v) (v' := v) (s := t) (t := fun k => 0 * t k) (fun _ _ => rfl) (fun k hk => by dsimp only; rw [h k hk]; omega) k hk
  rw [h1, ex_w_smul k hk]; omega
theorem ex_W_lin {n m i : Nat} {B : Nat → Nat → Int} {u v : Nat → Int} {a b : Int} (hi : i < m) (k : Nat) (hk : k < 2 ^ n) : ex_W n (ex_put B i (fun c => a * u c + b * v c)) m k = a * ex_W n (ex_put B i u) m k + b * ex_W n (ex_put B i v) m k := by
  induction m generalizing k with
  | zero => omega
  | succ m ih =>
    simp only [ex_W]
    by_cases c : i = m
    · subst c
      rw [ex_put_eq, ex_put_eq, ex_put_eq]
      have e : ∀ w : Nat → Int, ex_eq n (ex_W n (ex_put B i w) i) (ex_W n B i) := fun w => ex_W_congr fun j hj c _ => by rw [ex_put_ne (by omega)]
      rw [ex_w_congr (fun _ _ => rfl) (e _) k hk, ex_w_congr (v := u) (v' := u) (fun _ _ => rfl) (e _) k hk, ex_w_congr (v := v) (v' := v) (fun _ _ => rfl) (e _) k hk]
      exact ex_w_vadd k hk
    · rw [ex_put_ne (by omega), ex_put_ne (by omega), ex_put_ne (by omega)]
      have e : ex_eq n (ex_W n (ex_put B i (fun c => a * u c + b * v c)) m) (fun k => (a * ex_W n (ex_put B i u) m k) + (b * ex_W n (ex_put B i v) m k)) := fun k hk => ih (by omega) k hk
      rw [ex_w_congr (fun _ _ => rfl) e k hk, ex_w_add k hk, ex_w_smul k hk, ex_w_smul k hk]
theorem ex_W_in {n m i : Nat} {B : Nat → Nat → Int} (hi : i < m) : ∀ k, k < 2 ^ n → ex_w n (B i) (ex_W n B m) k = 0 := by
  induction m with
  | zero => omega
  | succ m ih =>
    intro k hk
    simp only [ex_W]
    by_cases c : i = m
    · subst c; exact ex_w_self k hk
    · rw [ex_w_anti k hk, ex_w_zero (ih (by omega)) k hk]; rfl
theorem ex_W_zero {n m i : Nat} {B : Nat → Nat → Int} (hi : i ≤ m) (h : ∀ k, k < 2 ^ n → ex_W n B i k = 0) : ∀ k, k < 2 ^ n → ex_W n B m k = 0 := by
  induction m with
  | zero => rw [show i = 0 from by omega] at h; exact h
  | succ m ih =>
    by_cases c : i = m + 1
    · rw [← c]; exact h
    · exact ex_w_zero (ih (by omega))
theorem ex_W_alt {n m i j : Nat} {B : Nat → Nat → Int} (hij : i ≠ j) (hi : i < m) (hj : j < m) (e : B i = B j) : ∀ k, k < 2 ^ n → ex_W n B m k = 0 := by
  rcases Nat.lt_or_gt_of_ne hij with c | c
  · refine ex_W_zero (i := j + 1) (by omega) ?_
    intro k hk
    simp only [ex_W]
    rw [← e]
    exact ex_W_in c k hk
  · refine ex_W_zero (i := i + 1) (by omega) ?_
    intro k hk
    simp only [ex_W]
    rw [e]
    exact ex_W_in c k hk
/-- a sum of vectors -/
def ex_sum (y : Nat → Int) (B : Nat → Nat → Int) : Nat → Nat → Int
  | 0 => fun _ => 0
  | m + 1 => fun c => 1 * ex_sum y B m c + y m * B m c
theorem ex_W_sum {n m q i : Nat} {B : Nat → Nat → Int} {y : Nat → Int} (hi : i < m) (hq : q ≤ m) (k : Nat) (hk : k < 2 ^ n) : ex_W n (ex_put B i (ex_sum y B q)) m k = if i < q then y i * ex_W n B m k else 0 := by
  induction q with
  | zero =>
    rw [if_neg (by omega)]
    have := ex_W_lin (n := n) (B := B) (u := fun _ => 0) (v := fun _ => 0) (a := 0) (b := 0) hi k hk
    simp only [Int.zero_mul, Int.add_zero] at this
    exact this
  | succ q ih =>
    simp only [ex_sum]
    rw [ex_W_lin hi k hk, ih (by omega)]
    by_cases c : i = q
    · subst c
      rw [if_neg (by omega), if_pos (by omega), ex_put_self]; omega
    · have z : ex_W n (ex_put B i (B q)) m k = 0 := ex_W_alt (i := i) (j := q) c hi (by omega) (by rw [ex_put_eq, ex_put_ne (by omega)]) k hk
      rw [z]
      by_cases c2 : i < q
      · rw [if_pos c2, if_pos (by omega)]; omega
      · rw [if_neg c2, if_neg (by omega)]; omega
theorem ex_top {n : Nat} : 2 ^ n - 1 < 2 ^ n := by have := Nat.two_pow_pos n; omega
theorem ex_det_sum {n i : Nat} {B : Nat → Nat → Int} {y : Nat → Int} (hi : i < n) : ex_det n (ex_put B i (ex_sum y B n)) = y i * ex_det n B := by
  have := ex_W_sum (B := B) (y := y) hi (Nat.le_refl n) _ (ex_top (n := n))
  rw [if_pos hi] at this
  exact this
theorem ex_det_congr {n : Nat} {B B' : Nat → Nat → Int} (h : ∀ j, j < n → ∀ i, i < n → B j i = B' j i) : ex_det n B = ex_det n B' := ex_W_congr h _ ex_top
theorem ex_det_smul {n i : Nat} {B : Nat → Nat → Int} {v : Nat → Int} {a : Int} (hi : i < n) : ex_det n (ex_put B i (fun c => a * v c)) = a * ex_det n (ex_put B i v) := by
  have := ex_W_lin (n := n) (B := B) (u := v) (v := v) (a := a) (b := 0) hi _ ex_top
  simp only [Int.zero_mul, Int.add_zero] at this
  exact this
/-- degrees -/
def ex_deg : Nat → Int → (Nat → Int) → Prop
  | 0, d, t => d = 0 ∨ t 0 = 0
  | n + 1, d, t => ex_deg n d t ∧ ex_deg n (d - 1) (fun j => t (j + 2 ^ n))
theorem ex_deg_lin {n : Nat} {d : Int} {s t : Nat → Int} {a b : Int} (h1 : ex_deg n d s) (h2 : ex_deg n d t) : ex_deg n d (fun k => a * s k + b * t k) := by
  induction n generalizing d s t with
  | zero =>
    rcases h1 with c | c
    · exact Or.inl c
    · rcases h2 with e | e
      · exact Or.inl e
      · right; simp only; rw [c, e]; omega
  | succ n ih => exact ⟨ih h1.1 h2.1, ih h1.2 h2.2⟩
theorem ex_deg_congr {n : Nat} {d : Int} {s t : Nat → Int} (h : ex_eq n s t) (h1 : ex_deg n d s) : ex_deg n d t := by
  induction n generalizing d s t with
  | zero => exact h1.imp id (fun e => by rw [← h 0 (by omega), e])
  | succ n ih => exact ⟨ih (ex_eq_lo h) h1.1, ih (ex_eq_hi h) h1.2⟩
theorem ex_deg_w {n : Nat} {d : Int} {v t : Nat → Int} (h : ex_deg n d t) : ex_deg n (d + 1) (ex_w n v t) := by
  induction n generalizing d t with
  | zero => exact Or.inr rfl
  | succ n ih =>
    refine ⟨ex_deg_congr (fun k hk => (ex_w_lo hk).symm) (ih h.1), ?_⟩
    have h2 := ih h.2
    rw [show d - 1 + 1 = d from by omega] at h2
    have h3 := ex_deg_lin (a := v n) (b := -1) h.1 h2
    rw [show d + 1 - 1 = d from by omega]
    refine ex_deg_congr (fun k hk => ?_) h3
    simp only [ex_w_hi]
    omega
theorem ex_deg_0 {n : Nat} {d : Int} {t : Nat → Int} (h : ex_deg n d t) (hd : d < 0 ∨ (n : Int) < d) : ∀ k, k < 2 ^ n → t k = 0 := by
  induction n generalizing d t with
  | zero =>
    intro k hk
    rw [show k = 0 from by omega]
    rcases h with c | c
    · omega
    · exact c
  | succ n ih =>
    intro k hk
    rcases ex_half hk with c | ⟨j, hj, rfl⟩
    · exact ih h.1 (by omega) k c
    · exact ih h.2 (by omega) j hj
theorem ex_deg_1 {n : Nat} : ex_deg n 0 ex_1 := by
  induction n with
  | zero => exact Or.inl rfl
  | succ n ih =>
    refine ⟨ih, ?_⟩
    have z : ∀ m : Nat, ∀ d : Int, ex_deg m d (fun _ => 0) := by
      intro m
      induction m with
      | zero => exact fun d => Or.inr rfl
      | succ m ih => exact fun d => ⟨ih d, ih (d - 1)⟩
    refine ex_deg_congr (fun k hk => ?_) (z n _)
    have := Nat.two_pow_pos n
    simp only [ex_1]
    rw [if_neg (by omega)]
theorem ex_deg_W {n m : Nat} {B : Nat → Nat → Int} : ex_deg n m (ex_W n B m) := by
  induction m with
  | zero => exact ex_deg_1
  | succ m ih => exact ex_deg_w ih
theorem ex_W_over {n : Nat} {B : Nat → Nat → Int} {v : Nat → Int} : ∀ k, k < 2 ^ n → ex_w n v (ex_W n B n) k = 0 :=
  ex_deg_0 (ex_deg_w ex_deg_W) (Or.inr (by omega))
/-- Cramer -/
def ex_cr (n : Nat) (B : Nat → Nat → Int) (v u : Nat → Int) (m : Nat) : Nat → Nat → Int
  | 0 => fun _ => 0
  | q + 1 => fun k => 1 * ex_cr n B v u m q k + ex_dot n u (B q) * ex_W n (ex_put B q v) m k
theorem ex_cr_w {n m q : Nat} {B : Nat → Nat → Int} {v u : Nat → Int} (hq : q ≤ m) (k : Nat) (hk : k < 2 ^ n) : ex_w n (B m) (ex_cr n B v u m q) k = ex_cr n B v u (m + 1) q k := by
  induction q generalizing k with
  | zero => exact ex_w_zero (fun _ _ => rfl) k hk
  | succ q ih =>
    simp only [ex_cr]
    have e : (fun k => 1 * ex_cr n B v u m q k + ex_dot n u (B q) * ex_W n (ex_put B q v) m k) = (fun k => (fun k => 1 * ex_cr n B v u m q k) k + (fun k => ex_dot n u (B q) * ex_W n (ex_put B q v) m k) k) := rfl
    rw [e, ex_w_add k hk, ex_w_smul k hk, ex_w_smul k hk, ih (by omega) k hk]
    have e2 : ex_W n (ex_put B q v) (m + 1) = ex_w n (B m) (ex_W n (ex_put B q v) m) := by
      simp only [ex_W]; rw [ex_put_ne (by omega)]
    rw [e2]
theorem ex_c_W {n m : Nat} {B : Nat → Nat → Int} {v u : Nat → Int} (k : Nat) (hk : k < 2 ^ n) : ex_w n v (ex_c n u (ex_W n B m)) k = ex_cr n B v u m m k := by
  induction m generalizing k with
  | zero =>
    refine ex_w_zero ?_ k hk
    intro k hk
    have z : ∀ p : Nat, ∀ k, k < 2 ^ p → ex_c p u ex_1 k = 0 := by
      intro p
      induction p with
      | zero => intro k hk; rfl
      | succ p ih =>
        intro k hk
        have h0 := Nat.two_pow_pos p
        have e0 : ∀ j, ex_1 (j + 2 ^ p) = 0 := fun j => by simp only [ex_1]; rw [if_neg (by omega)]
        rcases ex_half hk with c | ⟨j, hj, rfl⟩
        · rw [ex_c_lo c, ih k c, e0]; omega
        · rw [ex_c_hi]
          have e1 : (fun j => ex_1 (j + 2 ^ p)) = (fun j => 0 * ex_1 j + 0 * ex_1 j) := by funext j; rw [e0]; omega
          rw [e1, ex_c_add j hj]; omega
    exact z n k hk
  | succ m ih =>
    have h1 : ex_eq n (ex_c n u (ex_W n B (m + 1))) (fun k => (ex_dot n u (B m) * ex_W n B m k) + (- ex_w n (B m) (ex_c n u (ex_W n B m)) k)) := by
      intro k hk
      have := ex_cw (u := u) (v := B m) (t := ex_W n B m) k hk
      simp only [ex_W]
      omega
    rw [ex_w_congr (v := v) (v' := v) (fun _ _ => rfl) h1 k hk, ex_w_add k hk, ex_w_smul k hk, ex_w_neg k hk, ex_w_anti k hk]
    have h2 := ex_w_congr (v := B m) (v' := B m) (fun _ _ => rfl) (fun k hk => ih k hk) k hk
    rw [h2, ex_cr_w (Nat.le_refl m) k hk]
    simp only [ex_cr]
    have e2 : ex_W n (ex_put B m v) (m + 1) k = ex_w n v (ex_W n B m) k := by
      simp only [ex_W]; rw [ex_put_eq]
      exact ex_w_congr (fun _ _ => rfl) (ex_W_congr fun j hj c _ => by rw [ex_put_ne (by omega)]) k hk
    rw [e2]; omega
/-- the sum of Cramer at the top -/
def ex_crs (n : Nat) (B : Nat → Nat → Int) (v u : Nat → Int) : Nat → Int
  | 0 => 0
  | q + 1 => ex_crs n B v u q + ex_dot n u (B q) * ex_det n (ex_put B q v)
theorem ex_cramer {n : Nat} {B : Nat → Nat → Int} {v u : Nat → Int} : ex_dot n u v * ex_det n B = ex_crs n B v u n := by
  have h1 := ex_cw (u := u) (v := v) (t := ex_W n B n) _ (ex_top (n := n))
  rw [ex_c_W _ ex_top] at h1
  have h2 : ex_c n u (ex_w n v (ex_W n B n)) (2 ^ n - 1) = 0 := by
    have e := ex_c_congr (v := u) (s := ex_w n v (ex_W n B n)) (t := fun k => 0 * ex_1 k + 0 * ex_1 k) (fun k hk => by dsimp only; rw [ex_W_over k hk]; omega) _ (ex_top (n := n))
    rw [e, ex_c_add _ ex_top]; omega
  have h3 : ∀ q, ex_cr n B v u n q (2 ^ n - 1) = ex_crs n B v u q := by
    intro q
    induction q with
    | zero => rfl
    | succ q ih => simp only [ex_cr, ex_crs]; rw [ih, Int.one_mul]; rfl
  rw [h2, h3] at h1
  rw [ex_det, ← h1]; omega
/-- Cramer, by the coordinates -/
theorem ex_cramer_sum {n : Nat} {B : Nat → Nat → Int} {v : Nat → Int} (i : Nat) (hi : i < n) : ex_det n B * v i = ex_sum (fun j => ex_det n (ex_put B j v)) B n i := by
  have hd : ∀ (m : Nat) (w : Nat → Int), ex_dot m (fun j => if j = i then 1 else 0) w = if i < m then w i else 0 := by
    intro m w
    induction m with
    | zero => rfl
    | succ m ih =>
      simp only [ex_dot]
      rw [ih]
      by_cases c : m = i
      · subst c; rw [if_neg (by omega), if_pos rfl, if_pos (by omega)]; omega
      · rw [if_neg c]
        by_cases c2 : i < m
        · rw [if_pos c2, if_pos (by omega)]; omega
        · rw [if_neg c2, if_neg (by omega)]; omega
  have h1 := ex_cramer (n := n) (B := B) (v := v) (u := fun j => if j = i then 1 else 0)
  rw [hd, if_pos hi] at h1
  have h2 : ∀ q, ex_crs n B v (fun j => if j = i then 1 else 0) q = ex_sum (fun j => ex_det n (ex_put B j v)) B q i := by
    intro q
    induction q with
    | zero => rfl
    | succ q ih => simp only [ex_crs, ex_sum]; rw [ih, hd, if_pos hi, Int.one_mul, Int.mul_comm (B q i)]
  rw [h2] at h1
  rw [← h1, Int.mul_comm]
/-- Hadamard -/
def ex_nrm (n : Nat) (B : Nat → Nat → Int) : Nat → Int
  | 0 => 1
  | m + 1 => ex_dot n (B m) (B m) * ex_nrm n B m
theorem ex_dot_1 {m : Nat} : ex_dot m ex_1 ex_1 ≤ 1 := by
  have : ∀ m, ex_dot m ex_1 ex_1 = if 0 < m then 1 else 0 := by
    intro m
    induction m with
    | zero => rfl
    | succ m ih =>
      simp only [ex_dot]; rw [ih]
      by_cases c : m = 0
      · subst c; simp [ex_1]
      · simp [ex_1, c, Nat.pos_of_ne_zero c]
  rw [this]; split <;> omega
theorem ex_W_nrm {n m : Nat} {B : Nat → Nat → Int} : ex_dot (2 ^ n) (ex_W n B m) (ex_W n B m) ≤ ex_nrm n B m := by
  induction m with
  | zero => exact ex_dot_1
  | succ m ih =>
    simp only [ex_W, ex_nrm]
    exact Int.le_trans ex_norm (Int.mul_le_mul_of_nonneg_left ih ex_dot_nn)
theorem ex_dot_one {n i : Nat} {v : Nat → Int} (hi : i < n) : v i * v i ≤ ex_dot n v v := by
  induction n with
  | zero => omega
  | succ n ih =>
    simp only [ex_dot]
    by_cases c : i = n
    · subst c; have := ex_dot_nn (n := i) (u := v); omega
    · have := ih (by omega); have := ex_sq (v n); omega
theorem ex_hadamard {n : Nat} {B : Nat → Nat → Int} : ex_det n B * ex_det n B ≤ ex_nrm n B n :=
  Int.le_trans (ex_dot_one ex_top) ex_W_nrm
/-- too many vectors of a narrow room -/
def ex_Sp (n : Nat) (P : Nat → Nat → Int) : Nat → (Nat → Int) → Prop
  | 0, u => ∀ i, i < n → u i = 0
  | q + 1, u => ∃ (a : Int) (u' : Nat → Int), ex_Sp n P q u' ∧ ∀ i, i < n → u i = a * P q i + 1 * u' i
def ex_D (n : Nat) (Sp : (Nat → Int) → Prop) (k : Nat) (t : Nat → Int) : Prop := ∀ P : Nat → (Nat → Int) → Prop, (∀ t, P 0 t) → (∀ u t k, Sp u → P k t → P (k + 1) (ex_w n u t)) → (∀ s t k (a b : Int), P k s → P k t → P k (fun j => a * s j + b * t j)) → (∀ s t k, ex_eq n s t → P k s → P k t) → P k t
theorem ex_D.any {n : Nat} {Sp : (Nat → Int) → Prop} (t : Nat → Int) : ex_D n Sp 0 t := fun _ h _ _ _ => h t
theorem ex_D.wedge {n : Nat} {Sp : (Nat → Int) → Prop} {u t : Nat → Int} {k : Nat} (hu : Sp u) (h : ex_D n Sp k t) : ex_D n Sp (k + 1) (ex_w n u t) := fun P a b c d => b u t k hu (h P a b c d)
theorem ex_D.lin {n : Nat} {Sp : (Nat → Int) → Prop} {s t : Nat → Int} {k : Nat} (x y : Int) (h1 : ex_D n Sp k s) (h2 : ex_D n Sp k t) : ex_D n Sp k (fun j => x * s j + y * t j) := fun P a b c d => c s t k x y (h1 P a b c d) (h2 P a b c d)
theorem ex_D.congr {n : Nat} {Sp : (Nat → Int) → Prop} {s t : Nat → Int} {k : Nat} (e : ex_eq n s t) (h : ex_D n Sp k s) : ex_D n Sp k t := fun P a b c d => d s t k e (h P a b c d)
theorem ex_w_lin {n : Nat} {v s t : Nat → Int} {a b : Int} (k : Nat) (hk : k < 2 ^ n) : ex_w n v (fun j => a * s j + b * t j) k = a * ex_w n v s k + b * ex_w n v t k := by
  have e : (fun j => a * s j + b * t j) = (fun k => (fun j => a * s j) k + (fun j => b * t j) k) := rfl
  rw [e, ex_w_add k hk, ex_w_smul k hk, ex_w_smul k hk]
theorem ex_D_w {n : Nat} {Sp : (Nat → Int) → Prop} {k : Nat} {t v : Nat → Int} (h : ex_D n Sp k t) : ex_D n Sp k (ex_w n v t) := by
  refine h (fun k t => ex_D n Sp k (ex_w n v t)) ?_ ?_ ?_ ?_
  · intro t
    exact .any _
  · intro u t k hu ih
    refine .congr (fun k hk => ?_) (.lin (-1) 0 (.wedge hu ih) (.wedge hu ih))
    rw [ex_w_anti k hk]; omega
  · intro s t k a b h1 h2
    exact .congr (fun k hk => (ex_w_lin k hk).symm) (.lin a b h1 h2)
  · intro s t k e ih
    exact .congr (ex_w_congr (fun _ _ => rfl) e) ih
theorem ex_D_split {n : Nat} {Sp Sp' : (Nat → Int) → Prop} {p : Nat → Int} (hs : ∀ u, Sp u → ∃ (a : Int) (u' : Nat → Int), Sp' u' ∧ ∀ i, i < n → u i = a * p i + 1 * u' i) {k : Nat} {t : Nat → Int} (h : ex_D n Sp k t) : ∃ t0 t1, ex_D n Sp' k t0 ∧ ex_D n Sp' (k - 1) t1 ∧ ex_eq n t (fun j => t0 j + ex_w n p t1 j) := by
  refine h (fun k t => ∃ t0 t1, ex_D n Sp' k t0 ∧ ex_D n Sp' (k - 1) t1 ∧ ex_eq n t (fun j => t0 j + ex_w n p t1 j)) ?_ ?_ ?_ ?_
  · intro t
    exact ⟨t, fun _ => 0, .any _, .any _, fun k hk => by dsimp only; rw [ex_w_zero (fun _ _ => rfl) k hk]; omega⟩
  · intro u t k hu ih
    obtain ⟨t0, t1, h0, h1, e⟩ := ih
    obtain ⟨a, u', hu', eu⟩ := hs u hu
    refine ⟨ex_w n u' t0, fun j => a * t0 j + (-1) * ex_w n u' t1 j, .wedge hu' h0, ?_, ?_⟩
    · rw [Nat.add_sub_cancel]
      refine .lin a (-1) h0 ?_
      cases k with
      | zero => exact .any _
      | succ k => exact .wedge hu' h1
    · intro k hk
      have e1 : ex_w n u t k = ex_w n (fun i => a * p i + 1 * u' i) (fun j => t0 j + ex_w n p t1 j) k := ex_w_congr eu e k hk
      dsimp only
      rw [e1, ex_w_vadd k hk, ex_w_add k hk, ex_w_add k hk, ex_w_self k hk, ex_w_lin k hk, ex_w_anti (u := u') (v := p) k hk]
      grind
  · intro s t k a b h1 h2
    obtain ⟨s0, s1, hs0, hs1, es⟩ := h1
    obtain ⟨t0, t1, ht0, ht1, et⟩ := h2
    refine ⟨_, _, .lin a b hs0 ht0, .lin a b hs1 ht1, fun k hk => ?_⟩
    have e1 := es k hk
    have e2 := et k hk
    dsimp only at e1 e2 ⊢
    rw [e1, e2, ex_w_lin k hk]
    grind
  · intro s t k e ih
    obtain ⟨t0, t1, h0, h1, e1⟩ := ih
    exact ⟨t0, t1, h0, h1, fun k hk => by rw [← e k hk, e1 k hk]⟩
theorem ex_D_0 {n q : Nat} {P : Nat → Nat → Int} {k : Nat} {t : Nat → Int} (h : ex_D n (ex_Sp n P q) k t) (hk : q < k) : ∀ j, j < 2 ^ n → t j = 0 := by
  induction q generalizing k t with
  | zero =>
    refine h (fun k t => 0 < k → ∀ j, j < 2 ^ n → t j = 0) ?_ ?_ ?_ ?_ hk
    · intro t h0
      omega
    · intro u t k hu _ _ j hj
      have h1 := ex_w_congr (v := u) (v' := fun i => 0 * u i + 0 * u i) (s := t) (t := t) (fun i hi => by rw [hu i hi]; omega) (fun _ _ => rfl) j hj
      rw [h1, ex_w_vadd j hj]; omega
    · intro s t k a b h1 h2 hk j hj
      dsimp only; rw [h1 hk j hj, h2 hk j hj]; omega
    · intro s t k e ih hk j hj
      rw [← e j hj]; exact ih hk j hj
  | succ q ih =>
    obtain ⟨t0, t1, h0, h1, e⟩ := ex_D_split (Sp' := ex_Sp n P q) (p := P q) (fun u hu => hu) h
    intro j hj
    have e2 := e j hj
    dsimp only at e2
    rw [e2, ih h0 (by omega) j hj, ex_w_zero (ih h1 (by omega)) j hj]; rfl
/-- how many of the first m are such -/
def ex_cnt (p : Nat → Bool) : Nat → Nat
  | 0 => 0
  | m + 1 => ex_cnt p m + (if p m then 1 else 0)
theorem ex_D_W {n m : Nat} {Sp : (Nat → Int) → Prop} {B : Nat → Nat → Int} {p : Nat → Bool} (h : ∀ j, j < m → p j = true → Sp (B j)) : ex_D n Sp (ex_cnt p m) (ex_W n B m) := by
  induction m with
  | zero => exact .any _
  | succ m ih =>
    simp only [ex_cnt, ex_W]
    have h1 := ih fun j hj => h j (by omega)
    cases c : p m with
    | false => rw [if_neg (by simp)]; exact ex_D_w h1
    | true => rw [if_pos rfl]; exact .wedge (h m (by omega) c) h1
theorem ex_rank {n q : Nat} {P B : Nat → Nat → Int} {p : Nat → Bool} (h : ∀ j, j < n → p j = true → ex_Sp n P q (B j)) (hd : ex_det n B ≠ 0) : ex_cnt p n ≤ q := by
  apply Decidable.byContradiction
  intro c
  exact hd (ex_D_0 (ex_D_W h) (by omega) _ ex_top)
theorem ex_pow_le {s : Int} (hs : 1 ≤ s) {a b : Nat} (h : a ≤ b) : s ^ a ≤ s ^ b := by
  induction b with
  | zero => rw [show a = 0 from by omega]; exact Int.le_refl _
  | succ b ih =>
    by_cases c : a = b + 1
    · rw [c]; exact Int.le_refl _
    · have h1 := ih (by omega)
      have h2 : 0 ≤ s ^ b := Int.pow_nonneg (by omega)
      have h3 := Int.mul_le_mul_of_nonneg_left hs h2
      rw [Int.pow_succ]; omega
theorem ex_nrm_pow {n m : Nat} {B : Nat → Nat → Int} {p : Nat → Bool} {s : Int} (hs : 1 ≤ s) (h1 : ∀ j, j < m → p j = true → ex_dot n (B j) (B j) ≤ s) (h2 : ∀ j, j < m → p j = false → ex_dot n (B j) (B j) ≤ 1) : ex_nrm n B m ≤ s ^ (ex_cnt p m) := by
  induction m with
  | zero => simp [ex_nrm, ex_cnt]
  | succ m ih =>
    simp only [ex_nrm, ex_cnt]
    have h0 := ih (fun j hj => h1 j (by omega)) (fun j hj => h2 j (by omega))
    have hp : 0 ≤ s ^ (ex_cnt p m) := Int.pow_nonneg (by omega)
    cases c : p m with
    | false =>
      rw [if_neg (by simp), Nat.add_zero]
      have := Int.mul_le_mul (h2 m (by omega) c) h0 (Int.le_trans ex_dot_nn (ex_W_nrm (n := n) (m := m))) (by omega)
      omega
    | true =>
      rw [if_pos rfl, Int.pow_succ, Int.mul_comm]
      exact Int.mul_le_mul h0 (h1 m (by omega) c) ex_dot_nn hp
/-- the bound of a determinant -/
theorem ex_bound {n q : Nat} {P B : Nat → Nat → Int} {p : Nat → Bool} {s : Int} (hs : 1 ≤ s) (h0 : ∀ j, j < n → p j = true → ex_Sp n P q (B j)) (h1 : ∀ j, j < n → p j = true → ex_dot n (B j) (B j) ≤ s) (h2 : ∀ j, j < n → p j = false → ex_dot n (B j) (B j) ≤ 1) : ex_det n B * ex_det n B ≤ s ^ q := by
  by_cases c : ex_det n B = 0
  · rw [c]; exact Int.pow_nonneg (by omega)
  · refine Int.le_trans ex_hadamard (Int.le_trans (ex_nrm_pow hs h1 h2) ?_)
    exact ex_pow_le hs (ex_rank h0 c)
