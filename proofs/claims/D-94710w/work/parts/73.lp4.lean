/-! THE TABLEAU in longs; what is most; what share that is -/
theorem nab_mul {a b : Int} {P Q : Nat} (h1 : a.natAbs ≤ P) (h2 : b.natAbs ≤ Q) : (a * b).natAbs ≤ P * Q := by
  rw [Int.natAbs_mul]
  exact Nat.mul_le_mul h1 h2
/-- what a turn makes of the tableau -/
def lp_pv (f : Nat → Nat → Int64) (low : Int64) (row col : Nat) : Nat → Nat → Int64 := fun r c => if r = row then f r c else (f r c * f row col - f r col * f row c) / low
def lp_iv (A : Nat → Nat → Int) (m W : Nat) (b : Nat → Nat) (q : Nat) (f : Nat → Nat → Int64) (low : Int64) : Prop := low = jJ (sx_D A m b) ∧ (∀ r c, r < m → c ≤ W → f r c = jJ (sx_t A m b r c)) ∧ ∀ c, c ≤ W → f q c = jJ (sx_t A m b m c)
def lp_bs (A : Nat → Nat → Int) (m W : Nat) : Prop := 1 ≤ m ∧ ∀ b : Nat → Nat, (∀ r, r < m → b r < W) → ∀ r, r ≤ m → (∀ c, c < W → (sx_t A m b r c).natAbs ≤ 100000000) ∧ (sx_t A m b r W).natAbs ≤ 18000000000
section LPI
variable {A : Nat → Nat → Int} {m W : Nat} {b : Nat → Nat} {q : Nat} {f : Nat → Nat → Int64} {low : Int64}
theorem lp_bs.D (h : lp_bs A m W) (hb : ∀ r, r < m → b r < W) : (sx_D A m b).natAbs ≤ 100000000 := by
  have h1 := h.1
  rw [← sx_t_self (A := A) (b := b) (j := 0) (by omega)]
  exact (h.2 b hb 0 (by omega)).1 _ (hb 0 (by omega))
theorem lp_bs.t (h : lp_bs A m W) (hb : ∀ r, r < m → b r < W) {r c : Nat} (hr : r ≤ m) (hc : c ≤ W) : (sx_t A m b r c).natAbs ≤ 18000000000 := by
  by_cases e : c = W
  · rw [e]; exact (h.2 b hb r hr).2
  · have := (h.2 b hb r hr).1 c (by omega); omega
theorem lp_iv_p (h : lp_iv A m W b q f low) (bs : lp_bs A m W) (ok : sx_ok A m W b) (hq : m ≤ q) {row col : Nat} (hr : row < m) (hc : col < W) : lp_iv A m W (sx_p b row col) q (lp_pv f low row col) (f row col) := by
  obtain ⟨h1, h2, h3⟩ := h
  have hb2 : ∀ r, r < m → sx_p b row col r < W := fun r hr => by
    unfold sx_p; split
    · exact hc
    · exact ok.2.1 r hr
  have hD := bs.D ok.2.1
  have hD0 := ok.1
  have step : ∀ r c, r ≤ m → r ≠ row → c ≤ W → (jJ (sx_t A m b r c) * jJ (sx_t A m b row col) - jJ (sx_t A m b r col) * jJ (sx_t A m b row c)) / jJ (sx_D A m b) = jJ (sx_t A m (sx_p b row col) r c) := by
    intro r c hr1 hne hc1
    have e := sx_t_p (A := A) (b := b) (row := row) (col := col) (r := r) (c := c) hr hr1 hne
    rw [jJ_mul, jJ_mul, jJ_sub, ← e]
    have hb := nab_mul (bs.t hb2 hr1 hc1) hD
    rw [jJ_div (by omega) (by omega) (by omega) (by omega), Int.mul_tdiv_cancel _ (by omega)]
  refine ⟨?_, fun r c hr1 hc1 => ?_, fun c hc1 => ?_⟩
  · rw [h2 row col hr (by omega), sx_D_p hr]
  · unfold lp_pv
    by_cases e : r = row
    · rw [if_pos e, e, sx_t_row hr]; exact h2 row c hr hc1
    · rw [if_neg e, h2 r c hr1 hc1, h2 row col hr (by omega), h2 r col hr1 (by omega), h2 row c hr hc1, h1]
      exact step r c (by omega) e hc1
  · unfold lp_pv
    rw [if_neg (by omega), h3 c hc1, h2 row col hr (by omega), h3 col (by omega), h2 row c hr hc1, h1]
    exact step m c (Nat.le_refl m) (by omega) hc1
theorem lp_iv.neg (h : lp_iv A m W b q f low) (bs : lp_bs A m W) (ok : sx_ok A m W b) {c : Nat} (hc : c < W) : f q c < 0 ↔ sx_t A m b m c < 0 := by
  have := (bs.2 b ok.2.1 m (Nat.le_refl m)).1 c hc
  rw [h.2.2 c (by omega), jJ_lit 0, jJ_lt (by omega) (by omega) (by omega) (by omega)]
  rfl
theorem lp_iv.zero (h : lp_iv A m W b q f low) (bs : lp_bs A m W) (ok : sx_ok A m W b) {c : Nat} (hc : c < W) : f q c = 0 ↔ sx_t A m b m c = 0 := by
  have := (bs.2 b ok.2.1 m (Nat.le_refl m)).1 c hc
  rw [h.2.2 c (by omega), jJ_lit 0, jJ_inj (by omega) (by omega) (by omega) (by omega)]
  rfl
theorem lp_iv.pos (h : lp_iv A m W b q f low) (bs : lp_bs A m W) (ok : sx_ok A m W b) {r c : Nat} (hr : r < m) (hc : c < W) : 0 < f r c ↔ 0 < sx_t A m b r c := by
  have := (bs.2 b ok.2.1 r (by omega)).1 c hc
  rw [h.2.1 r c hr (by omega), jJ_lit 0, jJ_lt (by omega) (by omega) (by omega) (by omega)]
  rfl
/-- two views of one tableau agree -/
theorem lp_iv.two {A' : Nat → Nat → Int} {q' : Nat} (h : lp_iv A m W b q f low) (h' : lp_iv A' m W b q' f low) (bs : lp_bs A m W) (bs' : lp_bs A' m W) (hb : ∀ r, r < m → b r < W) : sx_D A m b = sx_D A' m b ∧ ∀ r c, r < m → c ≤ W → sx_t A m b r c = sx_t A' m b r c := by
  have h1 := bs.D hb
  have h2 := bs'.D hb
  refine ⟨(jJ_inj (by omega) (by omega) (by omega) (by omega)).mp (by rw [← h.1, ← h'.1]), fun r c hr hc => ?_⟩
  have h3 := bs.t hb (Nat.le_of_lt hr) hc
  have h4 := bs'.t hb (Nat.le_of_lt hr) hc
  exact (jJ_inj (by omega) (by omega) (by omega) (by omega)).mp (by rw [← h.2.1 r c hr hc, ← h'.2.1 r c hr hc])
theorem lp_iv.ok {A' : Nat → Nat → Int} {q' : Nat} (h : lp_iv A m W b q f low) (h' : lp_iv A' m W b q' f low) (bs : lp_bs A m W) (bs' : lp_bs A' m W) (ok : sx_ok A m W b) : sx_ok A' m W b := by
  obtain ⟨h1, h2⟩ := h.two h' bs bs' ok.2.1
  exact ⟨by rw [← h1]; exact ok.1, ok.2.1, fun r hr => by rw [← h2 r W hr (Nat.le_refl W)]; exact ok.2.2 r hr⟩
end LPI
/-- the row that bounds first, among the first i -/
def lpb (x y : Nat → Int) (b : Nat → Nat) (i r : Nat) : Prop := r < i ∧ 0 < y r ∧ ∀ j, j < i → 0 < y j → x r * y j ≤ x j * y r ∧ (x r * y j = x j * y r → b r ≤ b j)
theorem lpb_first {x y : Nat → Int} {b : Nat → Nat} {i : Nat} (h : ∀ j, j < i → y j ≤ 0) (hi : 0 < y i) : lpb x y b (i + 1) i := by
  refine ⟨by omega, hi, fun j hj hy => ?_⟩
  by_cases c : j = i
  · subst c; exact ⟨Int.le_refl _, fun _ => Nat.le_refl _⟩
  · have := h j (by omega); omega
theorem lpb_skip {x y : Nat → Int} {b : Nat → Nat} {i r : Nat} (h : lpb x y b i r) (hi : ¬ 0 < y i) : lpb x y b (i + 1) r := by
  refine ⟨by have := h.1; omega, h.2.1, fun j hj hy => ?_⟩
  by_cases c : j = i
  · subst c; exact absurd hy hi
  · exact h.2.2 j (by omega) hy
theorem lpb_keep {x y : Nat → Int} {b : Nat → Nat} {i r : Nat} (h : lpb x y b i r) (h1 : ¬ x i * y r < x r * y i) (h2 : x i * y r = x r * y i → b r ≤ b i) : lpb x y b (i + 1) r := by
  refine ⟨by have := h.1; omega, h.2.1, fun j hj hy => ?_⟩
  by_cases c : j = i
  · subst c; exact ⟨by omega, fun e => h2 e.symm⟩
  · exact h.2.2 j (by omega) hy
theorem lpb_new {x y : Nat → Int} {b : Nat → Nat} {i r : Nat} (h : lpb x y b i r) (hi : 0 < y i) (h1 : x i * y r < x r * y i ∨ x i * y r = x r * y i ∧ b i < b r) : lpb x y b (i + 1) i := by
  have hr := h.2.1
  refine ⟨by omega, hi, fun j hj hy => ?_⟩
  by_cases c : j = i
  · subst c; exact ⟨Int.le_refl _, fun _ => Nat.le_refl _⟩
  · obtain ⟨h3, h4⟩ := h.2.2 j (by omega) hy
    have h5 : x i * y r ≤ x r * y i := by omega
    refine ⟨sx_tr hi hr hy h5 h3, fun e => ?_⟩
    have h6 := sx_tr hr hy hi h3 (show x j * y i ≤ x i * y j by omega)
    have h7 := sx_tr hy hi hr (show x j * y i ≤ x i * y j by omega) h5
    have := h4 (by omega)
    omega
/-! what is most -/
def zs_fe (L N : Nat) (T : zs_T) (X : Nat → Int) (E : Int) : Prop := (∀ h, h < 2 ^ L → 0 ≤ X h) ∧ (∀ k o, k < T.length → o < zs_out (zs_at T k) → sx_s (fun h => X h * (if zs_fit (zs_at T k) h = o then 1 else 0)) (2 ^ L) ≤ E * ((zs_at T k).2.2.1 o : Nat)) ∧ sx_s X (2 ^ L) ≤ E * N
theorem zs_fe_all {L N : Nat} {T : zs_T} {X : Nat → Int} {E : Int} (hok : zs_ok L N T) (hT : 0 < T.length) (h : ∀ k o, k < T.length → o < zs_out (zs_at T k) → sx_s (fun h => X h * (if zs_fit (zs_at T k) h = o then 1 else 0)) (2 ^ L) ≤ E * ((zs_at T k).2.2.1 o : Nat)) : sx_s X (2 ^ L) ≤ E * N := by
  have h1 : sx_s (fun o => sx_s (fun h => X h * (if zs_fit (zs_at T 0) h = o then 1 else 0)) (2 ^ L)) (zs_out (zs_at T 0)) ≤ sx_s (fun o => E * ((zs_at T 0).2.2.1 o : Nat)) (zs_out (zs_at T 0)) := sx_s_le fun o ho => h 0 o hT ho
  rw [sx_s_swap, sx_s_mul] at h1
  have e1 : sx_s (fun j => sx_s (fun o => X j * (if zs_fit (zs_at T 0) j = o then 1 else 0)) (zs_out (zs_at T 0))) (2 ^ L) = sx_s X (2 ^ L) := by
    refine sx_s_congr fun j hj => ?_
    rw [sx_s_1 (i := zs_fit (zs_at T 0) j) (zs_fit_lt _ _)]
    · rw [if_pos rfl]; omega
    · intro o ho hne; rw [if_neg (fun q => hne q.symm)]; omega
  have hs := (ok_get hok hT).2.2.1
  have e2 : sx_s (fun o => ((zs_at T 0).2.2.1 o : Nat)) (zs_out (zs_at T 0)) = (N : Int) := by
    unfold zs_out
    split
    · rename_i hE
      rw [hE] at hs
      simp only at hs
      simp only [sx_s]; omega
    · rename_i b hE
      rw [hE] at hs
      simp only at hs
      simp only [sx_s]; omega
  rw [e1, e2] at h1
  exact h1
theorem lp_fe_iff {L N : Nat} {T : zs_T} {u : Nat} {aim : Nat → Int} {X : Nat → Int} {E : Int} (hok : zs_ok L N T) (hu : u = 1 ∨ u = 0 ∧ 0 < T.length) : sx_fe (lp_A L N T u aim) (lp_m T u) (2 ^ L) X E ↔ zs_fe L N T X E := by
  have key : ∀ k o, k < T.length → o < zs_out (zs_at T k) → sx_s (fun h => X h * lp_A L N T u aim h (u + (lp_ro T k + o))) (2 ^ L) = sx_s (fun h => X h * (if zs_fit (zs_at T k) h = o then 1 else 0)) (2 ^ L) := fun k o hk ho => sx_s_congr fun h hh => by rw [lp_out hh hk ho]
  have lt : ∀ k o, k < T.length → o < zs_out (zs_at T k) → u + (lp_ro T k + o) < lp_m T u := fun k o hk ho => by
    have h1 := lp_ro_mono T (show k + 1 ≤ T.length by omega)
    simp only [lp_ro] at h1
    unfold lp_m; omega
  constructor
  · rintro ⟨h1, h2⟩
    have h3 : ∀ k o, k < T.length → o < zs_out (zs_at T k) → sx_s (fun h => X h * (if zs_fit (zs_at T k) h = o then 1 else 0)) (2 ^ L) ≤ E * ((zs_at T k).2.2.1 o : Nat) := by
      intro k o hk ho
      have := h2 _ (lt k o hk ho)
      rw [key k o hk ho, lp_rhs hk ho] at this
      exact this
    refine ⟨h1, h3, ?_⟩
    rcases hu with rfl | ⟨rfl, hT⟩
    · have := h2 0 (by unfold lp_m; omega)
      rw [lp_rhsA (by omega)] at this
      have e : sx_s (fun h => X h * lp_A L N T 1 aim h 0) (2 ^ L) = sx_s X (2 ^ L) := sx_s_congr fun h hh => by rw [lp_all hh (by omega)]; omega
      rw [e] at this
      exact this
    · exact zs_fe_all hok hT h3
  · rintro ⟨h1, h2, h3⟩
    refine ⟨h1, fun i hi => ?_⟩
    rcases lp_row hi with c | ⟨k, o, hk, ho, rfl⟩
    · rw [lp_rhsA c]
      have e : sx_s (fun h => X h * lp_A L N T u aim h i) (2 ^ L) = sx_s X (2 ^ L) := sx_s_congr fun h hh => by rw [lp_all hh c]; omega
      rw [e]
      exact h3
    · rw [key k o hk ho, lp_rhs hk ho]
      exact h2 k o hk ho
def zs_opt (L N : Nat) (T : zs_T) (z D : Int) : Prop := 0 < D ∧ (∃ X, zs_fe L N T X D ∧ sx_s X (2 ^ L) = z) ∧ ∀ X E, 0 < E → zs_fe L N T X E → D * sx_s X (2 ^ L) ≤ E * z
def zs_op2 (L N : Nat) (T : zs_T) (wt : Nat → Int) (z D : Int) : Prop := 0 < D ∧ (∃ X, zs_fe L N T X D ∧ sx_s X (2 ^ L) = N * D ∧ sx_s (fun h => X h * wt h) (2 ^ L) = z) ∧ ∀ X E, 0 < E → zs_fe L N T X E → sx_s X (2 ^ L) = N * E → D * sx_s (fun h => X h * wt h) (2 ^ L) ≤ E * z
theorem zs_opt_eq {L N : Nat} {T : zs_T} {z D z' D' : Int} (h : zs_opt L N T z D) (h' : zs_opt L N T z' D') : z * D' = z' * D := by
  obtain ⟨h1, ⟨X, h2, h3⟩, h4⟩ := h
  obtain ⟨g1, ⟨Y, g2, g3⟩, g4⟩ := h'
  have a := g4 X D h1 h2
  have c := h4 Y D' g1 g2
  rw [h3] at a
  rw [g3] at c
  rw [Int.mul_comm z, Int.mul_comm z']
  omega
theorem zs_op2_eq {L N : Nat} {T : zs_T} {wt : Nat → Int} {z D z' D' : Int} (h : zs_op2 L N T wt z D) (h' : zs_op2 L N T wt z' D') : z * D' = z' * D := by
  obtain ⟨h1, ⟨X, h2, h3, h5⟩, h4⟩ := h
  obtain ⟨g1, ⟨Y, g2, g3, g5⟩, g4⟩ := h'
  have a := g4 X D h1 h2 h3
  have c := h4 Y D' g1 g2 g3
  rw [h5] at a
  rw [g5] at c
  rw [Int.mul_comm z, Int.mul_comm z']
  omega
/-- the hidden numbers are all of it -/
def zs_mix (L N : Nat) (T : zs_T) : Prop := ∃ z D, zs_opt L N T z D ∧ z = N * D
theorem zs_mix_iff {L N : Nat} {T : zs_T} {z D : Int} (h : zs_opt L N T z D) : zs_mix L N T ↔ z = N * D := by
  constructor
  · rintro ⟨z', D', h', e⟩
    have h1 := zs_opt_eq h h'
    rw [e] at h1
    have h2 : D' * z = D' * (N * D) := by grind
    exact Int.eq_of_mul_eq_mul_left (by have := h'.1; omega) h2
  · intro e
    exact ⟨z, D, h, e⟩
/-! lowest terms -/
theorem low_eq {a b a' b' : Nat} (hb : 0 < b) (hb' : 0 < b') (h : a * b' = a' * b) : a / Nat.gcd a b = a' / Nat.gcd a' b' ∧ b / Nat.gcd a b = b' / Nat.gcd a' b' := by
  have g0 : 0 < Nat.gcd a b := Nat.gcd_pos_of_pos_right a hb
  have g0' : 0 < Nat.gcd a' b' := Nat.gcd_pos_of_pos_right a' hb'
  have c := Nat.coprime_div_gcd_div_gcd g0
  have c' := Nat.coprime_div_gcd_div_gcd g0'
  have ea := Nat.div_mul_cancel (Nat.gcd_dvd_left a b)
  have eb := Nat.div_mul_cancel (Nat.gcd_dvd_right a b)
  have ea' := Nat.div_mul_cancel (Nat.gcd_dvd_left a' b')
  have eb' := Nat.div_mul_cancel (Nat.gcd_dvd_right a' b')
  generalize Nat.gcd a b = g at *
  generalize Nat.gcd a' b' = g' at *
  generalize a / g = p at *
  generalize b / g = q at *
  generalize a' / g' = p' at *
  generalize b' / g' = q' at *
  have e : p * q' = p' * q := by
    rw [← ea, ← eb, ← ea', ← eb'] at h
    have h1 : (g * g') * (p * q') = (g * g') * (p' * q) := by
      have x1 : p * g * (q' * g') = (g * g') * (p * q') := by grind
      have x2 : p' * g' * (q * g) = (g * g') * (p' * q) := by grind
      omega
    exact Nat.eq_of_mul_eq_mul_left (Nat.mul_pos g0 g0') h1
  have d1 : q ∣ q' := c.symm.dvd_of_dvd_mul_left ⟨p', by rw [e, Nat.mul_comm]⟩
  have d2 : q' ∣ q := c'.symm.dvd_of_dvd_mul_left ⟨p, by rw [← e, Nat.mul_comm]⟩
  have eq := Nat.dvd_antisymm d1 d2
  have hq : 0 < q := by
    rcases Nat.eq_zero_or_pos q with z | z
    · rw [z] at eb; omega
    · exact z
  refine ⟨?_, eq⟩
  rw [← eq] at e
  exact Nat.eq_of_mul_eq_mul_right hq e
def zs_low (c : Int32) (a b : Nat) : Int32 := (jJ (((if c = 0 then a else b) / Nat.gcd a b : Nat))).toInt32
theorem zs_low_eq {c : Int32} {a b a' b' : Nat} (hb : 0 < b) (hb' : 0 < b') (h : a * b' = a' * b) : zs_low c a b = zs_low c a' b' := by
  obtain ⟨h1, h2⟩ := low_eq hb hb' h
  unfold zs_low
  by_cases q : c = 0
  · rw [if_pos q, if_pos q, h1]
  · rw [if_neg q, if_neg q, h2]
theorem zs_low_self (c : Int32) {a : Nat} (ha : 0 < a) : zs_low c a a = 1 := by
  unfold zs_low
  rw [ite_self, Nat.gcd_self, Nat.div_self ha]
  decide
theorem zs_low_zero (c : Int32) {b : Nat} (hb : 0 < b) : zs_low c 0 b = if c = 0 then 0 else 1 := by
  unfold zs_low
  rw [Nat.gcd_zero_left]
  by_cases q : c = 0
  · rw [if_pos q, if_pos q, Nat.zero_div]; decide
  · rw [if_neg q, if_neg q, Nat.div_self hb]; decide
/-- what share answers; what together answers: all longs that are most give one answer -/
def zs_frac (N : Nat) (P : Int → Int → Prop) (c v : Int32) : Prop := ∃ z D : Int, P z D ∧ 0 < D ∧ 0 ≤ z ∧ v = zs_low c z.toNat (N * D).toNat
theorem zs_frac_eq {N : Nat} (hN : 0 < N) {P : Int → Int → Prop} (hP : ∀ z D z' D', P z D → P z' D' → z * D' = z' * D) {c v v' : Int32} (h : zs_frac N P c v) (h' : zs_frac N P c v') : v = v' := by
  obtain ⟨z, D, h1, h2, h3, rfl⟩ := h
  obtain ⟨z', D', g1, g2, g3, rfl⟩ := h'
  have e := hP _ _ _ _ h1 g1
  obtain ⟨a, rfl⟩ := Int.eq_ofNat_of_zero_le h3
  obtain ⟨a', rfl⟩ := Int.eq_ofNat_of_zero_le g3
  obtain ⟨d, rfl⟩ := Int.eq_ofNat_of_zero_le (Int.le_of_lt h2)
  obtain ⟨d', rfl⟩ := Int.eq_ofNat_of_zero_le (Int.le_of_lt g2)
  have e1 : ((N : Int) * (d : Int)).toNat = N * d := by rw [← Int.natCast_mul]; rfl
  have e2 : ((N : Int) * (d' : Int)).toNat = N * d' := by rw [← Int.natCast_mul]; rfl
  rw [e1, e2]
  have hd : 0 < d := by omega
  have hd' : 0 < d' := by omega
  refine zs_low_eq (Nat.mul_pos hN hd) (Nat.mul_pos hN hd') ?_
  have e3 : a * d' = a' * d := by
    rw [← Int.natCast_mul, ← Int.natCast_mul] at e
    exact Int.ofNat_inj.mp e
  show a * (N * d') = a' * (N * d)
  rw [Nat.mul_left_comm, e3, Nat.mul_left_comm]
