/-! THE ROWS OF A TABLE as columns of numbers, and how great what stands in the tableau can be -/
def lp_ro (T : zs_T) : Nat → Nat
  | 0 => 0
  | k + 1 => lp_ro T k + zs_out (zs_at T k)
/-- which set and outcome a row is of -/
def lp_rw (T : zs_T) : Nat → Nat → Nat × Nat
  | 0, _ => (0, 0)
  | k + 1, i => if lp_ro T k ≤ i then (k, i - lp_ro T k) else lp_rw T k i
theorem zs_out_ge (e : zs_E) : 2 ≤ zs_out e := by
  unfold zs_out
  split <;> omega
theorem lp_ro_mono (T : zs_T) {j k : Nat} (h : j ≤ k) : lp_ro T j ≤ lp_ro T k := by
  induction k with
  | zero => rw [show j = 0 by omega]; exact Nat.le_refl _
  | succ k ih =>
    by_cases c : j = k + 1
    · rw [c]; exact Nat.le_refl _
    · have := ih (by omega)
      simp only [lp_ro]; omega
theorem lp_rw_eq (T : zs_T) {n k o : Nat} (hk : k < n) (ho : o < zs_out (zs_at T k)) : lp_rw T n (lp_ro T k + o) = (k, o) := by
  induction n with
  | zero => omega
  | succ n ih =>
    simp only [lp_rw]
    by_cases c : k = n
    · subst c
      rw [if_pos (by omega), Nat.add_sub_cancel_left]
    · have h1 := lp_ro_mono T (show k + 1 ≤ n by omega)
      simp only [lp_ro] at h1
      rw [if_neg (by omega)]
      exact ih (by omega)
theorem lp_ro_inv (T : zs_T) {n i : Nat} (h : i < lp_ro T n) : ∃ k o, k < n ∧ o < zs_out (zs_at T k) ∧ i = lp_ro T k + o := by
  induction n with
  | zero => simp [lp_ro] at h
  | succ n ih =>
    by_cases c : i < lp_ro T n
    · obtain ⟨k, o, h1, h2, h3⟩ := ih c
      exact ⟨k, o, by omega, h2, h3⟩
    · simp only [lp_ro] at h
      exact ⟨n, i - lp_ro T n, by omega, by omega, by omega⟩
theorem lp_ro_le (T : zs_T) (n : Nat) : lp_ro T n ≤ 4 * n := by
  induction n with
  | zero => exact Nat.le_refl _
  | succ n ih => have := zs_out_le (zs_at T n); simp only [lp_ro]; omega
theorem lp_ro_ge (T : zs_T) (n : Nat) : 2 * n ≤ lp_ro T n := by
  induction n with
  | zero => exact Nat.le_refl _
  | succ n ih => have := zs_out_ge (zs_at T n); simp only [lp_ro]; omega
abbrev lp_m (T : zs_T) (u : Nat) : Nat := u + lp_ro T T.length
/-- so many rows u of all together, a row for each outcome, the aim -/
def lp_A (L N : Nat) (T : zs_T) (u : Nat) (aim : Nat → Int) : Nat → Nat → Int := fun c i =>
  if c < 2 ^ L then (if i = lp_m T u then aim c else if i < u then 1 else if zs_fit (zs_at T (lp_rw T T.length (i - u)).1) c = (lp_rw T T.length (i - u)).2 then 1 else 0)
  else if c < 2 ^ L + lp_m T u then (if i = c - 2 ^ L then 1 else 0)
  else (if i = lp_m T u then 0 else if i < u then N else ((zs_at T (lp_rw T T.length (i - u)).1).2.2.1 (lp_rw T T.length (i - u)).2 : Nat))
section LPA
variable {L N : Nat} {T : zs_T} {u : Nat} {aim : Nat → Int}
theorem lp_aim {h : Nat} (hh : h < 2 ^ L) : lp_A L N T u aim h (lp_m T u) = aim h := by
  unfold lp_A; rw [if_pos hh, if_pos rfl]
theorem lp_all {h i : Nat} (hh : h < 2 ^ L) (hi : i < u) : lp_A L N T u aim h i = 1 := by
  unfold lp_A; rw [if_pos hh, if_neg (by unfold lp_m; omega), if_pos hi]
theorem lp_out {h k o : Nat} (hh : h < 2 ^ L) (hk : k < T.length) (ho : o < zs_out (zs_at T k)) : lp_A L N T u aim h (u + (lp_ro T k + o)) = if zs_fit (zs_at T k) h = o then 1 else 0 := by
  have h1 := lp_ro_mono T (show k + 1 ≤ T.length by omega)
  simp only [lp_ro] at h1
  unfold lp_A
  rw [if_pos hh, if_neg (by unfold lp_m; omega), if_neg (by omega), Nat.add_sub_cancel_left, lp_rw_eq T hk ho]
theorem lp_slack {r i : Nat} (hr : r < lp_m T u) : lp_A L N T u aim (2 ^ L + r) i = if i = r then 1 else 0 := by
  unfold lp_A
  rw [if_neg (by omega), if_pos (by omega), Nat.add_sub_cancel_left]
theorem lp_rhs0 : lp_A L N T u aim (2 ^ L + lp_m T u) (lp_m T u) = 0 := by
  unfold lp_A; rw [if_neg (by omega), if_neg (by omega), if_pos rfl]
theorem lp_rhsA {i : Nat} (hi : i < u) : lp_A L N T u aim (2 ^ L + lp_m T u) i = N := by
  unfold lp_A; rw [if_neg (by omega), if_neg (by omega), if_neg (by unfold lp_m; omega), if_pos hi]
theorem lp_rhs {k o : Nat} (hk : k < T.length) (ho : o < zs_out (zs_at T k)) : lp_A L N T u aim (2 ^ L + lp_m T u) (u + (lp_ro T k + o)) = ((zs_at T k).2.2.1 o : Nat) := by
  have h1 := lp_ro_mono T (show k + 1 ≤ T.length by omega)
  simp only [lp_ro] at h1
  unfold lp_A
  rw [if_neg (by omega), if_neg (by omega), if_neg (by unfold lp_m; omega), if_neg (by omega), Nat.add_sub_cancel_left, lp_rw_eq T hk ho]
theorem lp_row {i : Nat} (hi : i < lp_m T u) : i < u ∨ ∃ k o, k < T.length ∧ o < zs_out (zs_at T k) ∧ i = u + (lp_ro T k + o) := by
  by_cases c : i < u
  · exact Or.inl c
  · obtain ⟨k, o, h1, h2, h3⟩ := lp_ro_inv T (n := T.length) (i := i - u) (by unfold lp_m at hi; omega)
    exact Or.inr ⟨k, o, h1, h2, by omega⟩
theorem lp_sl : sx_sl (lp_A L N T u aim) (lp_m T u) (2 ^ L) := by
  refine ⟨fun r i hr _ => lp_slack hr, lp_rhs0, fun h i hh hi => ?_⟩
  rcases lp_row hi with c | ⟨k, o, hk, ho, rfl⟩
  · rw [lp_all hh c]; omega
  · rw [lp_out hh hk ho]; split <;> omega
/-- what the hidden answers' columns are made of -/
def lp_P (T : zs_T) (u : Nat) (j : Nat) : Nat → Int := fun i =>
  if i = lp_m T u then (if j = 15 then 1 else 0)
  else if i < u then (if j = 0 then 1 else 0)
  else if j = 15 then 0
  else if j = 0 then (if (lp_rw T T.length (i - u)).2 = 0 then 1 else 0)
  else if j < 7 then
    (if (zs_at T (lp_rw T T.length (i - u)).1).1 = j - 1 then (if (lp_rw T T.length (i - u)).2 = 0 then -1 else if (lp_rw T T.length (i - u)).2 = (if (zs_at T (lp_rw T T.length (i - u)).1).2.1 = none then 1 else 2) then 1 else 0) else 0)
    + (if (zs_at T (lp_rw T T.length (i - u)).1).2.1 = some (j - 1) then (if (lp_rw T T.length (i - u)).2 = 0 then -1 else if (lp_rw T T.length (i - u)).2 = 1 then 1 else 0) else 0)
  else if (lp_rw T T.length (i - u)).1 = j - 7 ∧ (zs_at T (lp_rw T T.length (i - u)).1).2.1 ≠ none then (if (lp_rw T T.length (i - u)).2 = 0 ∨ (lp_rw T T.length (i - u)).2 = 3 then 1 else -1) else 0
def lp_bit (h l : Nat) : Int := (h / 2 ^ l % 2 : Nat)
def lp_yy (T : zs_T) (aim : Nat → Int) (h j : Nat) : Int :=
  if j = 0 then 1 else if j < 7 then lp_bit h (j - 1) else if j = 15 then aim h else match (zs_at T (j - 7)).2.1 with
    | none => 0
    | some b => lp_bit h (zs_at T (j - 7)).1 * lp_bit h b
theorem lp_bit_c (h l : Nat) : (lp_bit h l = 0 ∧ h / 2 ^ l % 2 = 0) ∨ (lp_bit h l = 1 ∧ h / 2 ^ l % 2 = 1) := by
  have h2 : h / 2 ^ l % 2 < 2 := Nat.mod_lt _ (by omega)
  unfold lp_bit
  omega
theorem ex_Sp_of {n q : Nat} {P : Nat → Nat → Int} {y v : Nat → Int} (h : ∀ i, i < n → v i = sx_s (fun j => y j * P j i) q) : ex_Sp n P q v := by
  induction q generalizing v with
  | zero => exact h
  | succ q ih =>
    refine ⟨y q, fun i => sx_s (fun j => y j * P j i) q, ih (fun i _ => rfl), fun i hi => ?_⟩
    rw [h i hi]
    simp only [sx_s]
    omega
theorem lp_s16 (f : Nat → Int) : sx_s f 16 = f 0 + sx_s (fun l => f (1 + l)) 6 + sx_s (fun k => f (7 + k)) 8 + f 15 := by
  simp only [sx_s, Nat.reduceAdd]
  omega
theorem lp_span (h8 : T.length ≤ 8) (hL : L ≤ 6) (hok : ∀ k, k < T.length → (zs_at T k).1 < L ∧ ∀ b, (zs_at T k).2.1 = some b → b < L ∧ b ≠ (zs_at T k).1) {h : Nat} (hh : h < 2 ^ L) : ex_Sp (lp_m T u + 1) (lp_P T u) 16 (lp_A L N T u aim h) := by
  refine ex_Sp_of (y := lp_yy T aim h) fun i hi => ?_
  rw [lp_s16]
  by_cases c0 : i = lp_m T u
  · subst c0
    rw [lp_aim hh, sx_s_0, sx_s_0]
    · simp [lp_P, lp_yy]
    · intro j hj
      have q : ¬ 7 + j = 15 := by omega
      simp [lp_P, q]
    · intro j hj
      have q : ¬ 1 + j = 15 := by omega
      simp [lp_P, q]
  · rcases lp_row (T := T) (u := u) (i := i) (by omega) with c1 | ⟨k, o, hk, ho, rfl⟩
    · rw [lp_all hh c1, sx_s_0, sx_s_0]
      · simp [lp_P, lp_yy, c0, c1]
      · intro j hj
        simp [lp_P, c0, c1]
      · intro j hj
        simp [lp_P, c0, c1]
    · rw [lp_out hh hk ho]
      have hw := lp_rw_eq T hk ho
      have c1 : ¬ u + (lp_ro T k + o) < u := by omega
      have P0 : lp_P T u 0 (u + (lp_ro T k + o)) = if o = 0 then 1 else 0 := by
        unfold lp_P; rw [if_neg c0, if_neg c1, Nat.add_sub_cancel_left, hw]; simp
      have P15 : lp_P T u 15 (u + (lp_ro T k + o)) = 0 := by
        unfold lp_P; rw [if_neg c0, if_neg c1]; simp
      have PL : ∀ l, l < 6 → lp_P T u (1 + l) (u + (lp_ro T k + o)) = (if (zs_at T k).1 = l then (if o = 0 then -1 else if o = (if (zs_at T k).2.1 = none then 1 else 2) then 1 else 0) else 0) + (if (zs_at T k).2.1 = some l then (if o = 0 then -1 else if o = 1 then 1 else 0) else 0) := by
        intro l hl
        unfold lp_P
        rw [if_neg c0, if_neg c1, if_neg (by omega), if_neg (by omega), if_pos (by omega), Nat.add_sub_cancel_left u, hw, Nat.add_sub_cancel_left 1]
      have PK : ∀ j, j < 8 → lp_P T u (7 + j) (u + (lp_ro T k + o)) = if k = j ∧ (zs_at T k).2.1 ≠ none then (if o = 0 ∨ o = 3 then 1 else -1) else 0 := by
        intro j hj
        unfold lp_P
        rw [if_neg c0, if_neg c1, if_neg (by omega), if_neg (by omega), if_neg (by omega), Nat.add_sub_cancel_left u, hw, Nat.add_sub_cancel_left 7]
      have Y0 : lp_yy T aim h 0 = 1 := rfl
      have YL : ∀ l, l < 6 → lp_yy T aim h (1 + l) = lp_bit h l := by
        intro l hl
        unfold lp_yy
        rw [if_neg (by omega), if_pos (by omega), Nat.add_sub_cancel_left]
      have YK : ∀ j, j < 8 → lp_yy T aim h (7 + j) = match (zs_at T j).2.1 with
          | none => 0
          | some b => lp_bit h (zs_at T j).1 * lp_bit h b := by
        intro j hj
        unfold lp_yy
        rw [if_neg (by omega), if_neg (by omega), if_neg (by omega), Nat.add_sub_cancel_left]
      obtain ⟨ha, hb⟩ := hok k hk
      have e2 : sx_s (fun j => lp_yy T aim h (7 + j) * lp_P T u (7 + j) (u + (lp_ro T k + o))) 8 = lp_yy T aim h (7 + k) * lp_P T u (7 + k) (u + (lp_ro T k + o)) := by
        refine sx_s_1 (f := fun j => lp_yy T aim h (7 + j) * lp_P T u (7 + j) (u + (lp_ro T k + o))) (i := k) (by omega) fun j hj hne => ?_
        rw [PK j hj, if_neg (fun q => hne q.1.symm), Int.mul_zero]
      have YK := YK k (by omega)
      rw [e2, PK k (by omega), P0, P15, Y0]
      cases hE : (zs_at T k).2.1 with
      | none =>
        rw [hE] at YK
        dsimp only at YK
        rw [YK]
        have e1 : sx_s (fun l => lp_yy T aim h (1 + l) * lp_P T u (1 + l) (u + (lp_ro T k + o))) 6 = lp_yy T aim h (1 + (zs_at T k).1) * lp_P T u (1 + (zs_at T k).1) (u + (lp_ro T k + o)) := by
          refine sx_s_1 (f := fun l => lp_yy T aim h (1 + l) * lp_P T u (1 + l) (u + (lp_ro T k + o))) (i := (zs_at T k).1) (by omega) fun j hj hne => ?_
          rw [PL j hj, if_neg (fun q => hne q.symm), hE, if_neg (by simp)]; simp
        rw [e1, YL _ (by omega), PL _ (by omega), hE]
        have hfit : zs_fit (zs_at T k) h = h / 2 ^ (zs_at T k).1 % 2 := by unfold zs_fit; rw [hE]
        have hout : zs_out (zs_at T k) = 2 := by unfold zs_out; rw [hE]
        rw [hfit]
        unfold lp_bit
        have h2 : h / 2 ^ (zs_at T k).1 % 2 < 2 := Nat.mod_lt _ (by omega)
        generalize h / 2 ^ (zs_at T k).1 % 2 = x at *
        obtain rfl | rfl : o = 0 ∨ o = 1 := by omega
        all_goals obtain rfl | rfl : x = 0 ∨ x = 1 := by omega
        all_goals simp
      | some b =>
        rw [hE] at YK
        dsimp only at YK
        rw [YK]
        obtain ⟨hb1, hb2⟩ := hb b hE
        have e1 : sx_s (fun l => lp_yy T aim h (1 + l) * lp_P T u (1 + l) (u + (lp_ro T k + o))) 6 = lp_yy T aim h (1 + (zs_at T k).1) * lp_P T u (1 + (zs_at T k).1) (u + (lp_ro T k + o)) + lp_yy T aim h (1 + b) * lp_P T u (1 + b) (u + (lp_ro T k + o)) := by
          refine sx_s_2 (f := fun l => lp_yy T aim h (1 + l) * lp_P T u (1 + l) (u + (lp_ro T k + o))) (i := (zs_at T k).1) (k := b) (by omega) (by omega) (fun q => hb2 q.symm) fun j hj hne hne2 => ?_
          rw [PL j hj, if_neg (fun q => hne q.symm), hE, if_neg (fun q => hne2 (by cases q; rfl))]; simp
        rw [e1, YL _ (by omega), PL _ (by omega), YL _ (by omega), PL _ (by omega), hE]
        have hfit : zs_fit (zs_at T k) h = 2 * (h / 2 ^ (zs_at T k).1 % 2) + h / 2 ^ b % 2 := by unfold zs_fit; rw [hE]
        have hout : zs_out (zs_at T k) = 4 := by unfold zs_out; rw [hE]
        rw [hfit, if_pos rfl, if_neg (c := some b = some (zs_at T k).1) (fun q => hb2 (by cases q; rfl)), if_neg (c := (zs_at T k).1 = b) (fun q => hb2 q.symm), if_pos (c := some b = some b) rfl]
        rcases lp_bit_c h (zs_at T k).1 with ⟨x1, x2⟩ | ⟨x1, x2⟩
        all_goals rcases lp_bit_c h b with ⟨y1, y2⟩ | ⟨y1, y2⟩
        all_goals rw [x1, x2, y1, y2]
        all_goals obtain rfl | rfl | rfl | rfl : o = 0 ∨ o = 1 ∨ o = 2 ∨ o = 3 := by omega
        all_goals simp
/-- sums of squares -/
theorem dot_one {n f : Nat} {v : Nat → Int} (hf : f < n) (h : ∀ j, j < n → v j = if j = f then 1 else 0) : ex_dot n v v = 1 := by
  have : ∀ q, q ≤ n → ex_dot q v v = if f < q then 1 else 0 := by
    intro q
    induction q with
    | zero => intro _; rfl
    | succ q ih =>
      intro hq
      simp only [ex_dot]
      rw [ih (by omega), h q (by omega)]
      by_cases c : q = f
      · subst c; simp
      · rw [if_neg c]
        by_cases c2 : f < q
        · rw [if_pos c2, if_pos (by omega)]; rfl
        · rw [if_neg c2, if_neg (by omega)]; rfl
  rw [this n (Nat.le_refl n), if_pos hf]
theorem lp_norm (h8 : T.length ≤ 8) (hu : u ≤ 1) {h : Nat} (hh : h < 2 ^ L) (ha : aim h * aim h ≤ 1) : ex_dot (lp_m T u + 1) (lp_A L N T u aim h) (lp_A L N T u aim h) ≤ 10 := by
  have h0 : ∀ q, q ≤ u → ex_dot q (lp_A L N T u aim h) (lp_A L N T u aim h) = q := by
    intro q
    induction q with
    | zero => intro _; rfl
    | succ q ih => intro hq; simp only [ex_dot]; rw [ih (by omega), lp_all hh (by omega)]; omega
  have h1 : ∀ k, k ≤ T.length → ex_dot (u + lp_ro T k) (lp_A L N T u aim h) (lp_A L N T u aim h) = u + k := by
    intro k
    induction k with
    | zero => intro _; have := h0 u (Nat.le_refl u); simpa [lp_ro] using this
    | succ k ih =>
      intro hk
      simp only [lp_ro]
      rw [← Nat.add_assoc, ex_dot_app, ih (by omega), dot_one (f := zs_fit (zs_at T k) h) (zs_fit_lt _ _)]
      · omega
      · intro j hj
        try dsimp only
        rw [show j + (u + lp_ro T k) = u + (lp_ro T k + j) by omega, lp_out hh (by omega) hj]
        by_cases c : j = zs_fit (zs_at T k) h
        · rw [if_pos c.symm, if_pos c]
        · rw [if_neg (fun q => c q.symm), if_neg c]
  have h2 := h1 T.length (Nat.le_refl _)
  simp only [ex_dot]
  rw [lp_aim hh]
  unfold lp_m
  rw [h2]
  omega
theorem sq4 {a b c d N : Nat} (h : a + b + c + d = N) : (a : Int) * a + (b : Int) * b + (c : Int) * c + (d : Int) * d ≤ (N : Int) * N := by
  subst h
  have h1 := Int.mul_nonneg (Int.natCast_nonneg a) (Int.natCast_nonneg b)
  have h2 := Int.mul_nonneg (Int.natCast_nonneg a) (Int.natCast_nonneg c)
  have h3 := Int.mul_nonneg (Int.natCast_nonneg a) (Int.natCast_nonneg d)
  have h4 := Int.mul_nonneg (Int.natCast_nonneg b) (Int.natCast_nonneg c)
  have h5 := Int.mul_nonneg (Int.natCast_nonneg b) (Int.natCast_nonneg d)
  have h6 := Int.mul_nonneg (Int.natCast_nonneg c) (Int.natCast_nonneg d)
  have e : ((a + b + c + d : Nat) : Int) = (a : Int) + b + c + d := by omega
  rw [e]
  have : ((a : Int) + b + c + d) * ((a : Int) + b + c + d) = (a : Int) * a + (b : Int) * b + (c : Int) * c + (d : Int) * d + 2 * ((a : Int) * b) + 2 * ((a : Int) * c) + 2 * ((a : Int) * d) + 2 * ((b : Int) * c) + 2 * ((b : Int) * d) + 2 * ((c : Int) * d) := by grind
  omega
theorem lp_normb (hok : zs_ok L N T) (hu : u ≤ 1) (hN : N ≤ 60) : ex_dot (lp_m T u + 1) (lp_A L N T u aim (2 ^ L + lp_m T u)) (lp_A L N T u aim (2 ^ L + lp_m T u)) ≤ 32400 := by
  have hNN : (N : Int) * N ≤ 3600 := by
    have := Int.mul_le_mul (a := N) (b := N) (c := 60) (d := 60) (by omega) (by omega) (by omega) (by omega)
    omega
  have h0 : ∀ q : Nat, q ≤ u → ex_dot q (lp_A L N T u aim (2 ^ L + lp_m T u)) (lp_A L N T u aim (2 ^ L + lp_m T u)) ≤ 3600 * q := by
    intro q
    induction q with
    | zero => intro _; exact Int.le_refl _
    | succ q ih => intro hq; simp only [ex_dot]; rw [lp_rhsA (by omega)]; have := ih (by omega); omega
  have h1 : ∀ k : Nat, k ≤ T.length → ex_dot (u + lp_ro T k) (lp_A L N T u aim (2 ^ L + lp_m T u)) (lp_A L N T u aim (2 ^ L + lp_m T u)) ≤ 3600 * (u + k) := by
    intro k
    induction k with
    | zero => intro _; have := h0 u (Nat.le_refl u); simpa [lp_ro] using this
    | succ k ih =>
      intro hk
      have ih := ih (by omega)
      simp only [lp_ro]
      rw [← Nat.add_assoc, ex_dot_app]
      have e : ∀ j, j < zs_out (zs_at T k) → lp_A L N T u aim (2 ^ L + lp_m T u) (j + (u + lp_ro T k)) = ((zs_at T k).2.2.1 j : Nat) := fun j hj => by
        rw [show j + (u + lp_ro T k) = u + (lp_ro T k + j) by omega, lp_rhs (by omega) hj]
      have hs := (ok_get hok (k := k) (by omega)).2.2.1
      rw [ex_dot_congr (u' := fun j => ((zs_at T k).2.2.1 j : Nat)) (v' := fun j => ((zs_at T k).2.2.1 j : Nat)) e e]
      have : ex_dot (zs_out (zs_at T k)) (fun j => ((zs_at T k).2.2.1 j : Nat)) (fun j => ((zs_at T k).2.2.1 j : Nat)) ≤ 3600 := by
        refine Int.le_trans ?_ hNN
        unfold zs_out
        split
        · rename_i hE
          rw [hE] at hs
          simp only at hs
          have := sq4 (a := (zs_at T k).2.2.1 0) (b := (zs_at T k).2.2.1 1) (c := 0) (d := 0) (N := N) (by omega)
          simp only [ex_dot]
          omega
        · rename_i b hE
          rw [hE] at hs
          simp only at hs
          have := sq4 hs
          simp only [ex_dot]
          omega
      omega
  have h2 := h1 T.length (Nat.le_refl _)
  have h8 := hok.1
  simp only [ex_dot]
  rw [lp_rhs0]
  unfold lp_m at h2 ⊢
  omega
end LPA
/-- one great column -/
theorem ex_nrm_one {n m i : Nat} {B : Nat → Nat → Int} {p : Nat → Bool} {s V : Int} (hs : 1 ≤ s) (hV : 1 ≤ V) (hi : ex_dot n (B i) (B i) ≤ V) (hpi : p i = false) (h1 : ∀ j, j < m → p j = true → ex_dot n (B j) (B j) ≤ s) (h2 : ∀ j, j < m → j ≠ i → p j = false → ex_dot n (B j) (B j) ≤ 1) : ex_nrm n B m ≤ (if i < m then V else 1) * s ^ (ex_cnt p m) := by
  induction m with
  | zero => simp [ex_nrm, ex_cnt]
  | succ m ih =>
    have h0 := ih (fun j hj => h1 j (by omega)) (fun j hj => h2 j (by omega))
    have hp : 0 ≤ s ^ (ex_cnt p m) := Int.pow_nonneg (by omega)
    have hn : 0 ≤ ex_nrm n B m := Int.le_trans ex_dot_nn (ex_W_nrm (n := n) (m := m))
    simp only [ex_nrm, ex_cnt]
    by_cases c : m = i
    · subst c
      rw [if_neg (by omega)] at h0
      rw [if_pos (by omega), hpi, if_neg (by simp), Nat.add_zero]
      exact Int.mul_le_mul hi (by omega) hn (by omega)
    · have e : (if i < m + 1 then V else 1) = if i < m then V else 1 := by
        by_cases q : i < m
        · rw [if_pos q, if_pos (by omega)]
        · rw [if_neg q, if_neg (by omega)]
      rw [e]
      have hv : 0 ≤ (if i < m then V else 1) := by split <;> omega
      cases q : p m with
      | false =>
        have ef : (if false = true then 1 else 0) = 0 := rfl
        rw [ef, Nat.add_zero]
        have := Int.mul_le_mul (h2 m (by omega) c q) h0 hn (by omega)
        omega
      | true =>
        have et : (if true = true then 1 else 0) = 1 := rfl
        rw [et, Int.pow_succ, ← Int.mul_assoc, Int.mul_comm]
        exact Int.mul_le_mul h0 (h1 m (by omega) q) ex_dot_nn (Int.mul_nonneg hv hp)
theorem ex_bound1 {n q i : Nat} {P B : Nat → Nat → Int} {p : Nat → Bool} {s V : Int} (hs : 1 ≤ s) (hV : 1 ≤ V) (hin : i < n) (hi : ex_dot n (B i) (B i) ≤ V) (hpi : p i = false) (h0 : ∀ j, j < n → p j = true → ex_Sp n P q (B j)) (h1 : ∀ j, j < n → p j = true → ex_dot n (B j) (B j) ≤ s) (h2 : ∀ j, j < n → j ≠ i → p j = false → ex_dot n (B j) (B j) ≤ 1) : ex_det n B * ex_det n B ≤ V * s ^ q := by
  by_cases c : ex_det n B = 0
  · rw [c]; exact Int.mul_nonneg (by omega) (Int.pow_nonneg (by omega))
  · refine Int.le_trans ex_hadamard (Int.le_trans (ex_nrm_one hs hV hi hpi h1 h2) ?_)
    rw [if_pos hin]
    exact Int.mul_le_mul_of_nonneg_left (ex_pow_le hs (ex_rank h0 c)) (by omega)
theorem sq_le {x K : Int} (hK : 0 ≤ K) (h : x * x ≤ K * K) : -K ≤ x ∧ x ≤ K := by
  constructor
  · apply Decidable.byContradiction
    intro c
    have := Int.mul_le_mul (a := K + 1) (b := K + 1) (c := -x) (d := -x) (by omega) (by omega) (by omega) (by omega)
    rw [Int.neg_mul_neg] at this
    have e : (K + 1) * (K + 1) = K * K + 2 * K + 1 := by grind
    omega
  · apply Decidable.byContradiction
    intro c
    have := Int.mul_le_mul (a := K + 1) (b := K + 1) (c := x) (d := x) (by omega) (by omega) (by omega) (by omega)
    have e : (K + 1) * (K + 1) = K * K + 2 * K + 1 := by grind
    omega
section LPB
variable {L N : Nat} {T : zs_T} {u : Nat} {aim : Nat → Int} {b : Nat → Nat}
/-- which columns of the frame are hidden answers' -/
def lp_p (L : Nat) (m : Nat) (b : Nat → Nat) (r c : Nat) : Nat → Bool := fun j => if j = r then decide (c < 2 ^ L) else decide (j ≠ m ∧ b j < 2 ^ L)
theorem lp_cols (hok : zs_ok L N T) (hL : L ≤ 6) (hu : u ≤ 1) (ha : ∀ h, h < 2 ^ L → aim h * aim h ≤ 1) (hb : ∀ r, r < lp_m T u → b r < 2 ^ L + lp_m T u) {r c : Nat} (hc : c < 2 ^ L + lp_m T u ∨ c = 2 ^ L + lp_m T u) : (∀ j, j < lp_m T u + 1 → lp_p L (lp_m T u) b r c j = true → ex_Sp (lp_m T u + 1) (lp_P T u) 16 (ex_put (sx_B (lp_A L N T u aim) (lp_m T u) b) r (lp_A L N T u aim c) j)) ∧ (∀ j, j < lp_m T u + 1 → lp_p L (lp_m T u) b r c j = true → ex_dot (lp_m T u + 1) (ex_put (sx_B (lp_A L N T u aim) (lp_m T u) b) r (lp_A L N T u aim c) j) (ex_put (sx_B (lp_A L N T u aim) (lp_m T u) b) r (lp_A L N T u aim c) j) ≤ 10) ∧ (∀ j, j < lp_m T u + 1 → (j = r → c ≠ 2 ^ L + lp_m T u) → lp_p L (lp_m T u) b r c j = false → ex_dot (lp_m T u + 1) (ex_put (sx_B (lp_A L N T u aim) (lp_m T u) b) r (lp_A L N T u aim c) j) (ex_put (sx_B (lp_A L N T u aim) (lp_m T u) b) r (lp_A L N T u aim c) j) ≤ 1) := by
  have hsp : ∀ h, h < 2 ^ L → ex_Sp (lp_m T u + 1) (lp_P T u) 16 (lp_A L N T u aim h) := fun h hh => lp_span hok.1 hL (fun k hk => ⟨(ok_get hok hk).1, (ok_get hok hk).2.1⟩) hh
  have hno : ∀ h, h < 2 ^ L → ex_dot (lp_m T u + 1) (lp_A L N T u aim h) (lp_A L N T u aim h) ≤ 10 := fun h hh => lp_norm hok.1 hu hh (ha h hh)
  have hsl : ∀ h, h < 2 ^ L + lp_m T u → ¬ h < 2 ^ L → ex_dot (lp_m T u + 1) (lp_A L N T u aim h) (lp_A L N T u aim h) ≤ 1 := by
    intro h h1 h2
    rw [dot_one (f := h - 2 ^ L) (by omega)]
    · exact Int.le_refl _
    · intro j hj
      have := lp_slack (L := L) (N := N) (T := T) (u := u) (aim := aim) (r := h - 2 ^ L) (i := j) (by omega)
      rw [show 2 ^ L + (h - 2 ^ L) = h by omega] at this
      exact this
  refine ⟨fun j hj hp => ?_, fun j hj hp => ?_, fun j hj hn hp => ?_⟩
  · unfold lp_p at hp
    by_cases q : j = r
    · subst q
      rw [if_pos rfl] at hp
      rw [ex_put_eq]
      exact hsp c (by simpa using hp)
    · rw [if_neg q] at hp
      simp only [decide_eq_true_eq] at hp
      rw [ex_put_ne q, sx_B_lt (by omega)]
      exact hsp _ hp.2
  · unfold lp_p at hp
    by_cases q : j = r
    · subst q
      rw [if_pos rfl] at hp
      rw [ex_put_eq]
      exact hno c (by simpa using hp)
    · rw [if_neg q] at hp
      simp only [decide_eq_true_eq] at hp
      rw [ex_put_ne q, sx_B_lt (by omega)]
      exact hno _ hp.2
  · unfold lp_p at hp
    by_cases q : j = r
    · subst q
      rw [if_pos rfl] at hp
      rw [ex_put_eq]
      have := hn rfl
      exact hsl c (by omega) (by simpa using hp)
    · rw [if_neg q] at hp
      simp only [decide_eq_false_iff_not] at hp
      rw [ex_put_ne q]
      by_cases q2 : j = lp_m T u
      · rw [q2, sx_B_m, dot_one (n := lp_m T u + 1) (v := sx_e (lp_m T u)) (f := lp_m T u) (by omega) (fun _ _ => rfl)]
        exact Int.le_refl _
      · rw [sx_B_lt (by omega)]
        exact hsl _ (hb j (by omega)) (fun q3 => hp ⟨q2, q3⟩)
theorem lp_bd (hok : zs_ok L N T) (hL : L ≤ 6) (hu : u ≤ 1) (ha : ∀ h, h < 2 ^ L → aim h * aim h ≤ 1) (hb : ∀ r, r < lp_m T u → b r < 2 ^ L + lp_m T u) {r c : Nat} (hc : c < 2 ^ L + lp_m T u) : -100000000 ≤ sx_t (lp_A L N T u aim) (lp_m T u) b r c ∧ sx_t (lp_A L N T u aim) (lp_m T u) b r c ≤ 100000000 := by
  obtain ⟨h1, h2, h3⟩ := lp_cols (N := N) (aim := aim) (r := r) hok hL hu ha hb (Or.inl hc)
  have h := ex_bound (s := 10) (by omega) h1 h2 (fun j hj hp => h3 j hj (fun _ => by omega) hp)
  exact sq_le (by omega) h
theorem lp_bdb (hok : zs_ok L N T) (hL : L ≤ 6) (hu : u ≤ 1) (hN : N ≤ 60) (ha : ∀ h, h < 2 ^ L → aim h * aim h ≤ 1) (hb : ∀ r, r < lp_m T u → b r < 2 ^ L + lp_m T u) {r : Nat} (hr : r ≤ lp_m T u) : -18000000000 ≤ sx_t (lp_A L N T u aim) (lp_m T u) b r (2 ^ L + lp_m T u) ∧ sx_t (lp_A L N T u aim) (lp_m T u) b r (2 ^ L + lp_m T u) ≤ 18000000000 := by
  obtain ⟨h1, h2, h3⟩ := lp_cols (N := N) (aim := aim) (r := r) hok hL hu ha hb (Or.inr rfl)
  have h := ex_bound1 (i := r) (s := 10) (V := 32400) (by omega) (by omega) (by omega) (by rw [ex_put_eq]; exact lp_normb hok hu hN) (by unfold lp_p; rw [if_pos rfl]; simp) h1 h2 (fun j hj hne hp => h3 j hj (fun q => absurd q hne) hp)
  exact sq_le (by omega) h
end LPB
