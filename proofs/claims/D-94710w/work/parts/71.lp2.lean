/-! BLAND: turning about comes to an end -/
theorem sx_hole {N : Nat} {c : Nat → Nat} (h : ∀ k, c k < N) : ∃ i j, i < j ∧ c i = c j := by
  induction N generalizing c with
  | zero => exact absurd (h 0) (by omega)
  | succ N ih =>
    by_cases q : ∃ k, c k = N
    · obtain ⟨k, hk⟩ := q
      by_cases q2 : ∃ l, k < l ∧ c l = N
      · obtain ⟨l, h1, h2⟩ := q2
        exact ⟨k, l, h1, by rw [hk, h2]⟩
      · obtain ⟨i, j, h1, h2⟩ := ih (c := fun x => c (k + 1 + x)) (fun x => by
          have h3 := h (k + 1 + x)
          have h4 : c (k + 1 + x) ≠ N := fun e => q2 ⟨k + 1 + x, by omega, e⟩
          omega)
        exact ⟨k + 1 + i, k + 1 + j, by omega, h2⟩
    · exact ih (fun k => by
        have h3 := h k
        have h4 : c k ≠ N := fun e => q ⟨k, e⟩
        omega)
theorem sx_max {N : Nat} {f : Nat → Nat} (h : ∀ k, f k < N) : ∃ k, ∀ l, f l ≤ f k := by
  induction N with
  | zero => exact absurd (h 0) (by omega)
  | succ N ih =>
    by_cases q : ∃ k, f k = N
    · obtain ⟨k, hk⟩ := q
      exact ⟨k, fun l => by have := h l; omega⟩
    · exact ih (fun k => by
        have := h k
        have h4 : f k ≠ N := fun e => q ⟨k, e⟩
        omega)
def sx_cod (W : Nat) (b : Nat → Nat) : Nat → Nat
  | 0 => 0
  | m + 1 => sx_cod W b m * W + b m
theorem sx_cod_lt {W m : Nat} {b : Nat → Nat} (h : ∀ r, r < m → b r < W) : sx_cod W b m < W ^ m := by
  induction m with
  | zero => simp [sx_cod]
  | succ m ih =>
    have h1 := ih (fun r hr => h r (by omega))
    have h2 := h m (by omega)
    simp only [sx_cod]
    rw [Nat.pow_succ]
    have h3 : (sx_cod W b m + 1) * W ≤ W ^ m * W := Nat.mul_le_mul_right W h1
    rw [Nat.add_mul] at h3
    omega
theorem sx_cod_inj {W m : Nat} {b b' : Nat → Nat} (h : ∀ r, r < m → b r < W) (h' : ∀ r, r < m → b' r < W) (e : sx_cod W b m = sx_cod W b' m) : ∀ r, r < m → b r = b' r := by
  induction m with
  | zero => intro r hr; omega
  | succ m ih =>
    simp only [sx_cod] at e
    have h1 := h m (by omega)
    have h2 := h' m (by omega)
    have e1 : b m = b' m := by
      have := congrArg (fun x => x % W) e
      try dsimp only at this
      rw [Nat.mul_add_mod_self_right, Nat.mul_add_mod_self_right, Nat.mod_eq_of_lt h1, Nat.mod_eq_of_lt h2] at this
      exact this
    have e2 : sx_cod W b m = sx_cod W b' m := by
      rw [e1] at e
      exact Nat.eq_of_mul_eq_mul_right (show 0 < W by omega) (by omega)
    intro r hr
    by_cases c : r = m
    · rw [c]; exact e1
    · exact ih (fun r hr => h r (by omega)) (fun r hr => h' r (by omega)) e2 r (by omega)
theorem sx_tr {a b c p q r : Int} (hp : 0 < p) (hq : 0 < q) (hr : 0 < r) (h1 : a * q ≤ b * p) (h2 : b * r ≤ c * q) : a * r ≤ c * p := by
  have h3 := Int.mul_le_mul_of_nonneg_right h1 (Int.le_of_lt hr)
  have h4 := Int.mul_le_mul_of_nonneg_right h2 (Int.le_of_lt hp)
  refine Int.le_of_mul_le_mul_left (a := q) ?_ hq
  have e1 : q * (a * r) = a * q * r := by grind
  have e2 : q * (c * p) = c * q * p := by grind
  have e3 : b * p * r = b * r * p := by grind
  omega
section BL
variable {A : Nat → Nat → Int} {m W : Nat} {fr : Nat → Bool}
theorem sx_mono1 {b : Nat → Nat} {s r : Nat} (ok : sx_ok A m W b) (he : sx_ent A m W fr b s) (hl : sx_lea A m W b s r) : sx_t A m b m W * sx_D A m (sx_p b r s) ≤ sx_t A m (sx_p b r s) m W * sx_D A m b ∧ (sx_t A m (sx_p b r s) m W * sx_D A m b ≤ sx_t A m b m W * sx_D A m (sx_p b r s) → sx_t A m b r W = 0) := by
  have h := sx_t_p (A := A) (b := b) (row := r) (col := s) (r := m) (c := W) hl.1 (Nat.le_refl m) (by have := hl.1; omega)
  rw [sx_D_p hl.1, h]
  have h1 := he.2.2.1
  have h2 := ok.2.2 r hl.1
  have h3 := Int.mul_nonneg (show 0 ≤ - sx_t A m b m s by omega) h2
  rw [Int.neg_mul] at h3
  refine ⟨by omega, fun q => ?_⟩
  apply Decidable.byContradiction
  intro c
  have h4 := Int.mul_pos (show 0 < - sx_t A m b m s by omega) (show 0 < sx_t A m b r W by omega)
  rw [Int.neg_mul] at h4
  omega
theorem sx_chain {g : Nat → Nat → Nat} (ok : ∀ k, sx_ok A m W (g k)) (hs : ∀ k, sx_st A m W fr (g k) (g (k + 1))) (k d : Nat) : sx_t A m (g k) m W * sx_D A m (g (k + d)) ≤ sx_t A m (g (k + d)) m W * sx_D A m (g k) := by
  induction d with
  | zero => exact Int.le_refl _
  | succ d ih =>
    obtain ⟨s, r, he, hl, e⟩ := hs (k + d)
    have h2 := (sx_mono1 (ok (k + d)) he hl).1
    rw [← e] at h2
    exact sx_tr (ok k).1 (ok (k + d)).1 (ok (k + d + 1)).1 ih h2
theorem sx_no {g : Nat → Nat → Nat} {p : Nat} (hp : 0 < p) (per : ∀ k, g (k + p) = g k) (ok : ∀ k, sx_ok A m W (g k)) (hs : ∀ k, sx_st A m W fr (g k) (g (k + 1))) : False := by
  obtain ⟨S, hS⟩ := Classical.skolem.mp hs
  obtain ⟨R, hR⟩ := Classical.skolem.mp hS
  have deg : ∀ k, sx_t A m (g k) (R k) W = 0 := by
    intro k
    obtain ⟨he, hl, e⟩ := hR k
    refine (sx_mono1 (ok k) he hl).2 ?_
    have h := sx_chain ok hs (k + 1) (p - 1)
    rw [show k + 1 + (p - 1) = k + p by omega, per k] at h
    rw [← e]
    exact h
  have far : ∀ k n, g (k + p * n) = g k := by
    intro k n
    induction n with
    | zero => rfl
    | succ n ih => rw [Nat.mul_succ, ← Nat.add_assoc, per, ih]
  have ent : ∀ k c d, (¬ ∃ r, r < m ∧ g k r = c) → (∃ r, r < m ∧ g (k + d) r = c) → ∃ k', S k' = c := by
    intro k c d
    induction d with
    | zero => exact fun h1 h2 => absurd h2 h1
    | succ d ih =>
      intro h1 h2
      by_cases q : ∃ r, r < m ∧ g (k + d) r = c
      · exact ih h1 q
      · obtain ⟨r, hr, e⟩ := h2
        rw [show k + (d + 1) = k + d + 1 from rfl, (hR (k + d)).2.2] at e
        by_cases q2 : r = R (k + d)
        · rw [q2, sx_p_eq] at e
          exact ⟨_, e⟩
        · rw [sx_p_ne q2] at e
          exact absurd ⟨r, hr, e⟩ q
  have lea : ∀ k c d, (∃ r, r < m ∧ g k r = c) → (¬ ∃ r, r < m ∧ g (k + d) r = c) → ∃ k', g k' (R k') = c := by
    intro k c d
    induction d with
    | zero => exact fun h1 h2 => absurd h1 h2
    | succ d ih =>
      intro h1 h2
      by_cases q : ∃ r, r < m ∧ g (k + d) r = c
      · obtain ⟨r, hr, e⟩ := q
        by_cases q2 : r = R (k + d)
        · rw [q2] at e
          exact ⟨_, e⟩
        · refine absurd ⟨r, hr, ?_⟩ h2
          rw [show k + (d + 1) = k + d + 1 from rfl, (hR (k + d)).2.2, sx_p_ne q2]
          exact e
      · exact ih h1 q
  have nb : ∀ k, ¬ ∃ r, r < m ∧ g k r = S k := by
    rintro k ⟨r, hr, e⟩
    have h1 := (hR k).1.2.2.1
    rw [← e, sx_t_other hr (Nat.le_refl m) (by omega)] at h1
    omega
  have zero : ∀ k c d, (∀ r, r < m → g k r = c → sx_t A m (g k) r W = 0) → ∀ r, r < m → g (k + d) r = c → sx_t A m (g (k + d)) r W = 0 := by
    intro k c d
    induction d with
    | zero => exact fun h => h
    | succ d ih =>
      intro h r hr e
      have ih := ih h
      rw [show k + (d + 1) = k + d + 1 from rfl, (hR (k + d)).2.2] at e ⊢
      have hl := (hR (k + d)).2.1.1
      by_cases q2 : r = R (k + d)
      · rw [q2, sx_t_row hl]
        exact deg (k + d)
      · rw [sx_p_ne q2] at e
        have h1 := sx_t_p (A := A) (b := g (k + d)) (row := R (k + d)) (col := S (k + d)) (r := r) (c := W) hl (Nat.le_of_lt hr) q2
        rw [ih r hr e, deg (k + d), Int.zero_mul, Int.mul_zero] at h1
        have h2 := (ok (k + d)).1
        rcases Int.mul_eq_zero.mp (show sx_t A m (sx_p (g (k + d)) (R (k + d)) (S (k + d))) r W * sx_D A m (g (k + d)) = 0 by omega) with h3 | h3
        · exact h3
        · omega
  obtain ⟨ks, hmax⟩ := sx_max (f := S) (N := W) (fun k => (hR k).1.1)
  obtain ⟨k1, hk1⟩ := lea (ks + 1) (S ks) (p - 1) ⟨R ks, (hR ks).2.1.1, by rw [(hR ks).2.2, sx_p_eq]⟩ (by rw [show ks + 1 + (p - 1) = ks + p by omega, per]; exact nb ks)
  obtain ⟨⟨e1, e2, e3, e4⟩, ⟨l1, l2, l3⟩, -⟩ := hR k1
  obtain ⟨⟨f1, f2, f3, f4⟩, -, -⟩ := hR ks
  have sq : S k1 < S ks := by
    have h1 := hmax k1
    have h2 : S k1 ≠ S ks := fun e => nb k1 ⟨R k1, l1, by rw [hk1, e]⟩
    omega
  have h1 := f4 (S k1) sq e2
  have key := sx_two (A := A) (m := m) (b := g k1) (b' := g ks) (s := S k1)
  have h2 := Int.mul_nonneg (Int.le_of_lt (ok k1).1) h1
  have h3 := Int.mul_pos (show 0 < - sx_t A m (g k1) m (S k1) by omega) (ok ks).1
  rw [Int.neg_mul] at h3
  obtain ⟨r, hr, hpos⟩ := sx_s_ex (f := fun r => sx_t A m (g k1) r (S k1) * sx_t A m (g ks) m (g k1 r)) (q := m) (by omega)
  try dsimp only at hpos
  have nbi : ¬ ∃ j, j < m ∧ g ks j = g k1 r := by
    rintro ⟨j, hj, e⟩
    rw [← e, sx_t_other hj (Nat.le_refl m) (by omega)] at hpos
    omega
  have hle : ks ≤ p * ks := Nat.le_mul_of_pos_left ks hp
  have hat : ks + (k1 + p * ks - ks) = k1 + p * ks := by omega
  obtain ⟨k2, hk2⟩ := ent ks (g k1 r) (k1 + p * ks - ks) nbi ⟨r, hr, by rw [hat, far]⟩
  have iq : g k1 r ≤ S ks := by rw [← hk2]; exact hmax k2
  have ifr : fr (g k1 r) = true := by rw [← hk2]; exact (hR k2).1.2.1
  by_cases c : g k1 r = S ks
  · have er := sx_inj (ok k1).1 hr l1 (by rw [hk1, c])
    rw [c, er] at hpos
    have := Int.mul_pos l2 (show 0 < - sx_t A m (g ks) m (S ks) by omega)
    rw [Int.mul_neg] at this
    omega
  · have h4 := f4 (g k1 r) (by omega) ifr
    have h5 : 0 < sx_t A m (g k1) r (S k1) := by
      apply Decidable.byContradiction
      intro c2
      have := Int.mul_nonneg (show 0 ≤ - sx_t A m (g k1) r (S k1) by omega) h4
      rw [Int.neg_mul] at this
      omega
    have h6 : sx_t A m (g k1) r W = 0 := by
      have := zero ks (g k1 r) (k1 + p * ks - ks) (fun j hj e => absurd ⟨j, hj, e⟩ nbi)
      rw [hat, far] at this
      exact this r hr rfl
    have h7 := (l3 r hr h5).2 (by rw [deg k1, h6, Int.zero_mul, Int.zero_mul])
    rw [hk1] at h7
    omega
end BL
def sx_it {α : Type} (F : α → α) (a : α) : Nat → α
  | 0 => a
  | k + 1 => F (sx_it F a k)
/-- what goes over from all next bases to a base holds of all bases -/
theorem sx_ind {A : Nat → Nat → Int} {m W : Nat} {fr : Nat → Bool} {P : (Nat → Nat) → Prop} (hP : ∀ b, sx_ok A m W b → (∀ b', sx_st A m W fr b b' → P b') → P b) {b : Nat → Nat} (hb : sx_ok A m W b) : P b := by
  apply Classical.byContradiction
  intro hn
  have nx : ∀ x : { b : Nat → Nat // sx_ok A m W b ∧ ¬ P b }, ∃ y : { b : Nat → Nat // sx_ok A m W b ∧ ¬ P b }, sx_st A m W fr x.1 y.1 := by
    intro ⟨x, hx, hx2⟩
    apply Classical.byContradiction
    intro c
    refine hx2 (hP x hx fun b' hb' => ?_)
    apply Classical.byContradiction
    intro c2
    exact c ⟨⟨b', sx_st_ok hx hb', c2⟩, hb'⟩
  obtain ⟨F, hF⟩ := Classical.skolem.mp nx
  generalize hf : sx_it F ⟨b, hb, hn⟩ = f
  have hs : ∀ k, sx_st A m W fr (f k).1 (f (k + 1)).1 := fun k => by subst hf; exact hF _
  have ok : ∀ k, sx_ok A m W (f k).1 := fun k => (f k).2.1
  have fix : ∀ k r, m ≤ r → (f k).1 r = (f 0).1 r := by
    intro k r hr
    induction k with
    | zero => rfl
    | succ k ih =>
      obtain ⟨s, row, he, hl, e⟩ := hs k
      rw [e, sx_p_ne (by have := hl.1; omega), ih]
  obtain ⟨i, j, hij, e⟩ := sx_hole (N := W ^ m) (c := fun k => sx_cod W (f k).1 m) (fun k => sx_cod_lt (ok k).2.1)
  have ee : (f i).1 = (f j).1 := by
    funext r
    by_cases c : r < m
    · exact sx_cod_inj (ok i).2.1 (ok j).2.1 e r c
    · rw [fix i r (by omega), fix j r (by omega)]
  have hp : 0 < j - i := by omega
  refine sx_no (A := A) (m := m) (W := W) (fr := fr) (g := fun k => (f (i + k % (j - i))).1) (p := j - i) hp ?_ ?_ ?_
  · intro k; rw [Nat.add_mod_right]
  · intro k; exact ok _
  · intro k
    have h1 := Nat.mod_lt k hp
    have h3 : (k + 1) % (j - i) = (k % (j - i) + 1) % (j - i) := (Nat.mod_add_mod k (j - i) 1).symm
    try dsimp only
    rw [h3]
    by_cases c : k % (j - i) + 1 = j - i
    · rw [c, Nat.mod_self, Nat.add_zero, ee]
      have := hs (i + k % (j - i))
      rw [show i + k % (j - i) + 1 = j by omega] at this
      exact this
    · rw [Nat.mod_eq_of_lt (show k % (j - i) + 1 < j - i by omega)]
      exact hs (i + k % (j - i))
/-! WHAT IS FOUND: columns below w0 are numbers of hidden answers, those behind them what is left of each row -/
section FD
variable {A : Nat → Nat → Int} {m w0 : Nat} {b : Nat → Nat}
def sx_sl (A : Nat → Nat → Int) (m w0 : Nat) : Prop := (∀ r i, r < m → i ≤ m → A (w0 + r) i = if i = r then 1 else 0) ∧ A (w0 + m) m = 0 ∧ (∀ h i, h < w0 → i < m → 0 ≤ A h i)
/-- numbers that fit, all by E -/
def sx_fe (A : Nat → Nat → Int) (m w0 : Nat) (X : Nat → Int) (E : Int) : Prop := (∀ h, h < w0 → 0 ≤ X h) ∧ ∀ i, i < m → sx_s (fun h => X h * A h i) w0 ≤ E * A (w0 + m) i
def sx_y (A : Nat → Nat → Int) (m w0 : Nat) (X : Nat → Int) (E : Int) : Nat → Int := fun c => if c < w0 then X c else E * A (w0 + m) (c - w0) - sx_s (fun h => X h * A h (c - w0)) w0
theorem sx_y_nn {X : Nat → Int} {E : Int} (h : sx_fe A m w0 X E) : ∀ c, c < w0 + m → 0 ≤ sx_y A m w0 X E c := by
  intro c hc
  unfold sx_y
  by_cases q : c < w0
  · rw [if_pos q]; exact h.1 c q
  · rw [if_neg q]
    have := h.2 (c - w0) (by omega)
    omega
theorem sx_y_s {X : Nat → Int} {E : Int} {i : Nat} (hs : sx_sl A m w0) (hi : i ≤ m) : sx_s (fun c => sx_y A m w0 X E c * A c i) (w0 + m) = sx_s (fun h => X h * A h i) w0 + if i < m then E * A (w0 + m) i - sx_s (fun h => X h * A h i) w0 else 0 := by
  rw [sx_s_app]
  congr 1
  · exact sx_s_congr fun j hj => by unfold sx_y; rw [if_pos hj]
  · by_cases c : i < m
    · rw [if_pos c, sx_s_1 (i := i) c]
      · try dsimp only
        unfold sx_y
        rw [if_neg (by omega), hs.1 i i c hi, if_pos rfl, Nat.add_sub_cancel_left]; omega
      · intro j hj hne
        rw [hs.1 j i hj hi, if_neg (by omega)]; omega
    · rw [if_neg c]
      refine sx_s_0 fun j hj => ?_
      rw [hs.1 j i hj hi, if_neg (by omega)]; omega
theorem sx_dual {X : Nat → Int} {E : Int} (hs : sx_sl A m w0) : sx_s (fun c => sx_y A m w0 X E c * sx_t A m b m c) (w0 + m) = E * sx_t A m b m (w0 + m) + sx_D A m b * sx_s (fun h => X h * A h m) w0 := by
  have h := sx_sol (A := A) (m := m) (W := w0 + m) (b := b) (y := sx_y A m w0 X E) (E := E) (fun i hi => by
    rw [sx_y_s hs (by omega), if_pos hi]; omega) hs.2.1
  rw [h, sx_y_s hs (Nat.le_refl m), if_neg (by omega), Int.add_zero]
/-- the numbers of a base -/
def sx_X (A : Nat → Nat → Int) (m w0 : Nat) (b : Nat → Nat) : Nat → Int := fun h => sx_s (fun r => if b r = h then sx_t A m b r (w0 + m) else 0) m
theorem sx_X_s {f : Nat → Int} : sx_s (fun h => sx_X A m w0 b h * f h) w0 = sx_s (fun r => if b r < w0 then sx_t A m b r (w0 + m) * f (b r) else 0) m := by
  have e1 : sx_s (fun h => sx_X A m w0 b h * f h) w0 = sx_s (fun h => sx_s (fun r => if b r = h then sx_t A m b r (w0 + m) * f h else 0) m) w0 := by
    refine sx_s_congr fun h hh => ?_
    unfold sx_X
    rw [Int.mul_comm, ← sx_s_mul]
    refine sx_s_congr fun r hr => ?_
    by_cases c : b r = h
    · rw [if_pos c, if_pos c, Int.mul_comm]
    · rw [if_neg c, if_neg c, Int.mul_zero]
  rw [e1, sx_s_swap]
  refine sx_s_congr fun r hr => ?_
  by_cases c : b r < w0
  · rw [if_pos c, sx_s_1 (i := b r) c]
    · rw [if_pos rfl]
    · intro j hj hne; rw [if_neg (fun q => hne q.symm)]
  · rw [if_neg c]
    exact sx_s_0 fun j hj => if_neg (by omega)
theorem sx_X_fe (hs : sx_sl A m w0) (ok : sx_ok A m (w0 + m) b) : sx_fe A m w0 (sx_X A m w0 b) (sx_D A m b) := by
  refine ⟨fun h hh => sx_s_nn fun r hr => ?_, fun i hi => ?_⟩
  · split
    · exact ok.2.2 r hr
    · exact Int.le_refl _
  · rw [sx_X_s, sx_col (by omega)]
    unfold sx_e
    rw [if_neg (by omega), Int.mul_zero, Int.add_zero]
    refine sx_s_le fun r hr => ?_
    have h1 := ok.2.2 r hr
    have h2 := ok.2.1 r hr
    have h3 : 0 ≤ A (b r) i := by
      by_cases c : b r < w0
      · exact hs.2.2 _ _ c hi
      · have := hs.1 (b r - w0) i (by omega) (by omega)
        rw [show w0 + (b r - w0) = b r by omega] at this
        rw [this]; split <;> omega
    have h4 := Int.mul_nonneg h1 h3
    split <;> omega
theorem sx_X_aim (hs : sx_sl A m w0) (ok : sx_ok A m (w0 + m) b) : sx_s (fun h => sx_X A m w0 b h * A h m) w0 = - sx_t A m b m (w0 + m) := by
  have h := sx_col (A := A) (m := m) (b := b) (s := w0 + m) (i := m) (Nat.le_refl m)
  rw [hs.2.1] at h
  unfold sx_e at h
  rw [if_pos rfl] at h
  rw [sx_X_s]
  have e : sx_s (fun r => if b r < w0 then sx_t A m b r (w0 + m) * A (b r) m else 0) m = sx_s (fun r => sx_t A m b r (w0 + m) * A (b r) m) m := by
    refine sx_s_congr fun r hr => ?_
    have h2 := ok.2.1 r hr
    by_cases c : b r < w0
    · rw [if_pos c]
    · have := hs.1 (b r - w0) m (by omega) (by omega)
      rw [show w0 + (b r - w0) = b r by omega, if_neg (by omega)] at this
      rw [if_neg c, this, Int.mul_zero]
  rw [e]
  omega
/-- the most: no numbers that fit do better -/
theorem sx_most (hs : sx_sl A m w0) {X : Nat → Int} {E : Int} (hf : sx_fe A m w0 X E) (he : ∀ c, c < w0 + m → sx_y A m w0 X E c = 0 ∨ 0 ≤ sx_t A m b m c) : sx_D A m b * - sx_s (fun h => X h * A h m) w0 ≤ E * sx_t A m b m (w0 + m) := by
  have h := sx_dual (b := b) (X := X) (E := E) hs
  have h2 : 0 ≤ sx_s (fun c => sx_y A m w0 X E c * sx_t A m b m c) (w0 + m) := by
    refine sx_s_nn fun c hc => ?_
    rcases he c hc with q | q
    · rw [q]; omega
    · exact Int.mul_nonneg (sx_y_nn hf c hc) q
  rw [Int.mul_neg]
  omega
/-- as much as the most: nothing where it would cost -/
theorem sx_tight (hs : sx_sl A m w0) {X : Nat → Int} {E : Int} (hf : sx_fe A m w0 X E) (he : ∀ c, c < w0 + m → 0 ≤ sx_t A m b m c) (hq : E * sx_t A m b m (w0 + m) = sx_D A m b * - sx_s (fun h => X h * A h m) w0) : ∀ c, c < w0 + m → sx_t A m b m c ≠ 0 → sx_y A m w0 X E c = 0 := by
  have h := sx_dual (b := b) (X := X) (E := E) hs
  rw [Int.mul_neg] at hq
  have h2 : sx_s (fun c => sx_y A m w0 X E c * sx_t A m b m c) (w0 + m) = 0 := by omega
  have z : ∀ (f : Nat → Int) (q : Nat), (∀ j, j < q → 0 ≤ f j) → sx_s f q = 0 → ∀ j, j < q → f j = 0 := by
    intro f q
    induction q with
    | zero => intro _ _ j hj; omega
    | succ q ih =>
      intro h1 h2 j hj
      simp only [sx_s] at h2
      have h3 := sx_s_nn (f := f) (q := q) (fun j hj => h1 j (by omega))
      have h4 := h1 q (by omega)
      by_cases c : j = q
      · subst c; omega
      · exact ih (fun j hj => h1 j (by omega)) (by omega) j (by omega)
  intro c hc hne
  have h3 := z _ _ (fun j hj => Int.mul_nonneg (sx_y_nn hf j hj) (he j hj)) h2 c hc
  rcases Int.mul_eq_zero.mp h3 with q | q
  · exact q
  · exact absurd q hne
end FD
