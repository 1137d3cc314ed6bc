/-! WHAT IS FOUND by the tableau of a table is most -/
/-- a frame's determinant doesn't hang on the aim -/
theorem ex_det_aim {m : Nat} {B1 B2 : Nat → Nat → Int} (h : ∀ j, j < m → ∀ i, i < m → B1 j i = B2 j i) (h1 : ∀ i, i ≤ m → B1 m i = sx_e m i) (h2 : ∀ i, i ≤ m → B2 m i = sx_e m i) : ex_det (m + 1) B1 = ex_det (m + 1) B2 := by
  have key : ∀ q, q ≤ m → ex_det (m + 1) (fun j => if j < q then B2 j else B1 j) = ex_det (m + 1) B1 := by
    intro q
    induction q with
    | zero => intro _; exact ex_det_congr fun j hj i hi => by rw [if_neg (by omega)]
    | succ q ih =>
      intro hq
      rw [← ih (by omega)]
      have e1 : ex_det (m + 1) (fun j => if j < q + 1 then B2 j else B1 j) = ex_det (m + 1) (ex_put (fun j => if j < q then B2 j else B1 j) q (B2 q)) := by
        refine ex_det_congr fun j hj i hi => ?_
        by_cases c : j = q
        · subst c; rw [ex_put_eq, if_pos (by omega)]
        · rw [ex_put_ne c]
          by_cases c2 : j < q
          · rw [if_pos c2, if_pos (by omega)]
          · rw [if_neg c2, if_neg (by omega)]
      have e2 : ex_det (m + 1) (fun j => if j < q then B2 j else B1 j) = ex_det (m + 1) (ex_put (fun j => if j < q then B2 j else B1 j) q (fun i => 1 * B2 q i + (B1 q m - B2 q m) * sx_e m i)) := by
        refine ex_det_congr fun j hj i hi => ?_
        by_cases c : j = q
        · subst c
          rw [ex_put_eq, if_neg (by omega)]
          unfold sx_e
          by_cases c2 : i = m
          · rw [if_pos c2, c2]; omega
          · rw [if_neg c2, h j (by omega) i (by omega)]; omega
        · rw [ex_put_ne c]
      have e3 : ex_det (m + 1) (ex_put (fun j => if j < q then B2 j else B1 j) q (sx_e m)) = 0 := by
        have := sx_alt (n := m + 1) (B := fun j => if j < q then B2 j else B1 j) (i := q) (j := m) (by omega) (by omega) (by omega)
        rw [← this]
        refine sx_put_congr fun i hi => ?_
        rw [if_neg (by omega), h1 i (by omega)]
      rw [e1, e2, sx_lin2 (by omega), e3]
      omega
  rw [← key m (Nat.le_refl m)]
  refine ex_det_congr fun j hj i hi => ?_
  by_cases c : j < m
  · rw [if_pos c]
  · rw [if_neg c, show j = m by omega, h1 i (by omega), h2 i (by omega)]
theorem sx_same {A A' : Nat → Nat → Int} {m : Nat} {b : Nat → Nat} (h : ∀ c i, i < m → A c i = A' c i) : sx_D A m b = sx_D A' m b ∧ ∀ r c, r < m → sx_t A m b r c = sx_t A' m b r c := by
  refine ⟨ex_det_aim (fun j hj i hi => ?_) (fun i _ => by rw [sx_B_m]) (fun i _ => by rw [sx_B_m]), fun r c hr => ex_det_aim (fun j hj i hi => ?_) (fun i _ => by rw [ex_put_ne (by omega), sx_B_m]) (fun i _ => by rw [ex_put_ne (by omega), sx_B_m])⟩
  · rw [sx_B_lt hj, sx_B_lt hj, h _ i hi]
  · by_cases q : j = r
    · subst q; rw [ex_put_eq, ex_put_eq, h _ i hi]
    · rw [ex_put_ne q, ex_put_ne q, sx_B_lt hj, sx_B_lt hj, h _ i hi]
section LP5
variable {L N : Nat} {T : zs_T} {u : Nat} {aim aim' : Nat → Int} {b : Nat → Nat}
theorem lp_A_aim {c i : Nat} (hi : i < lp_m T u) : lp_A L N T u aim c i = lp_A L N T u aim' c i := by
  have h1 : ¬ i = lp_m T u := by omega
  unfold lp_A
  simp only [if_neg h1]
theorem lp_aim_s {X : Nat → Int} : sx_s (fun h => X h * lp_A L N T u aim h (lp_m T u)) (2 ^ L) = sx_s (fun h => X h * aim h) (2 ^ L) := sx_s_congr fun h hh => by rw [lp_aim hh]
theorem sx_s_neg {f : Nat → Int} {q : Nat} : sx_s (fun j => - f j) q = - sx_s f q := by
  induction q with
  | zero => rfl
  | succ q ih => simp only [sx_s]; rw [ih]; omega
abbrev lp_1 : Nat → Int := fun _ => -1
theorem lp_opt1 (hok : zs_ok L N T) (hu : u = 1 ∨ u = 0 ∧ 0 < T.length) (ok : sx_ok (lp_A L N T u lp_1) (lp_m T u) (2 ^ L + lp_m T u) b) (he : ∀ c, c < 2 ^ L + lp_m T u → 0 ≤ sx_t (lp_A L N T u lp_1) (lp_m T u) b (lp_m T u) c) : zs_opt L N T (sx_t (lp_A L N T u lp_1) (lp_m T u) b (lp_m T u) (2 ^ L + lp_m T u)) (sx_D (lp_A L N T u lp_1) (lp_m T u) b) := by
  have e : ∀ X : Nat → Int, sx_s (fun h => X h * lp_A L N T u lp_1 h (lp_m T u)) (2 ^ L) = - sx_s X (2 ^ L) := by
    intro X
    rw [lp_aim_s, ← sx_s_neg]
    exact sx_s_congr fun h hh => by show X h * -1 = - X h; omega
  refine ⟨ok.1, ⟨sx_X (lp_A L N T u lp_1) (lp_m T u) (2 ^ L) b, (lp_fe_iff hok hu).mp (sx_X_fe lp_sl ok), ?_⟩, fun X E hE hf => ?_⟩
  · have := sx_X_aim lp_sl ok
    rw [e] at this
    omega
  · have := sx_most lp_sl ((lp_fe_iff hok hu).mpr hf) (fun c hc => Or.inr (he c hc))
    rw [e, Int.neg_neg] at this
    exact this
theorem lp_opt2 (hok : zs_ok L N T) (hu : u = 1 ∨ u = 0 ∧ 0 < T.length) {wt : Nat → Int} (ha : ∀ h, aim h = - wt h) (ok : sx_ok (lp_A L N T u aim) (lp_m T u) (2 ^ L + lp_m T u) b) {fr : Nat → Bool} (h1 : ∀ c, c < 2 ^ L + lp_m T u → 0 ≤ sx_t (lp_A L N T u lp_1) (lp_m T u) b (lp_m T u) c ∧ (sx_t (lp_A L N T u lp_1) (lp_m T u) b (lp_m T u) c = 0 ↔ fr c = true)) (he : ∀ c, c < 2 ^ L + lp_m T u → fr c = true → 0 ≤ sx_t (lp_A L N T u aim) (lp_m T u) b (lp_m T u) c) (hm : sx_t (lp_A L N T u lp_1) (lp_m T u) b (lp_m T u) (2 ^ L + lp_m T u) = N * sx_D (lp_A L N T u lp_1) (lp_m T u) b) : zs_op2 L N T wt (sx_t (lp_A L N T u aim) (lp_m T u) b (lp_m T u) (2 ^ L + lp_m T u)) (sx_D (lp_A L N T u aim) (lp_m T u) b) := by
  have sm := sx_same (b := b) (A := lp_A L N T u aim) (A' := lp_A L N T u lp_1) (m := lp_m T u) (fun c i hi => lp_A_aim hi)
  have ok1 : sx_ok (lp_A L N T u lp_1) (lp_m T u) (2 ^ L + lp_m T u) b := ⟨by rw [← sm.1]; exact ok.1, ok.2.1, fun r hr => by rw [← sm.2 r _ hr]; exact ok.2.2 r hr⟩
  have o1 := lp_opt1 hok hu ok1 (fun c hc => (h1 c hc).1)
  have e : ∀ X : Nat → Int, sx_s (fun h => X h * lp_A L N T u aim h (lp_m T u)) (2 ^ L) = - sx_s (fun h => X h * wt h) (2 ^ L) := by
    intro X
    rw [lp_aim_s, ← sx_s_neg]
    exact sx_s_congr fun h hh => by rw [ha h, Int.mul_neg]
  have e1 : ∀ X : Nat → Int, sx_s (fun h => X h * lp_A L N T u lp_1 h (lp_m T u)) (2 ^ L) = - sx_s X (2 ^ L) := by
    intro X
    rw [lp_aim_s, ← sx_s_neg]
    exact sx_s_congr fun h hh => by show X h * -1 = - X h; omega
  refine ⟨ok.1, ⟨sx_X (lp_A L N T u aim) (lp_m T u) (2 ^ L) b, (lp_fe_iff hok hu).mp (sx_X_fe lp_sl ok), ?_, ?_⟩, fun X E hE hf hs => ?_⟩
  · have x1 := sx_X_aim lp_sl ok1
    rw [e1] at x1
    have x2 : sx_s (sx_X (lp_A L N T u aim) (lp_m T u) (2 ^ L) b) (2 ^ L) = sx_s (sx_X (lp_A L N T u lp_1) (lp_m T u) (2 ^ L) b) (2 ^ L) := by
      refine sx_s_congr fun h hh => ?_
      unfold sx_X
      refine sx_s_congr fun r hr => ?_
      rw [sm.2 r _ hr]
    rw [x2, sm.1]
    omega
  · have := sx_X_aim lp_sl ok
    rw [e] at this
    omega
  · have t1 := sx_tight (b := b) (lp_sl (L := L) (N := N) (T := T) (u := u) (aim := lp_1)) ((lp_fe_iff hok hu).mpr hf) (fun c hc => (h1 c hc).1) (by
      rw [e1, Int.neg_neg, hs, hm]; grind)
    have ye : ∀ c, c < 2 ^ L + lp_m T u → sx_y (lp_A L N T u aim) (lp_m T u) (2 ^ L) X E c = sx_y (lp_A L N T u lp_1) (lp_m T u) (2 ^ L) X E c := by
      intro c hc
      unfold sx_y
      by_cases q : c < 2 ^ L
      · rw [if_pos q, if_pos q]
      · rw [if_neg q, if_neg q, lp_A_aim (aim' := lp_1) (by omega)]
        congr 1
        exact sx_s_congr fun h hh => by rw [lp_A_aim (aim' := lp_1) (by omega)]
    have := sx_most (b := b) (lp_sl (L := L) (N := N) (T := T) (u := u) (aim := aim)) ((lp_fe_iff hok hu).mpr hf) (fun c hc => by
      by_cases q : sx_t (lp_A L N T u lp_1) (lp_m T u) b (lp_m T u) c = 0
      · exact Or.inr (he c hc ((h1 c hc).2.mp q))
      · rw [ye c hc]; exact Or.inl (t1 c hc q))
    rw [e, Int.neg_neg] at this
    exact this
end LP5
/-! a table of no sets -/
theorem sx_s_pt {f : Nat → Int} {n h0 : Nat} {x : Int} (hh : h0 < n) : sx_s (fun h => (if h = h0 then x else 0) * f h) n = x * f h0 := by
  rw [sx_s_1 (i := h0) hh]
  · rw [if_pos rfl]
  · intro j hj hne; rw [if_neg hne]; omega
theorem sx_s_pt1 {n h0 : Nat} {x : Int} (hh : h0 < n) : sx_s (fun h => if h = h0 then x else 0) n = x := by
  rw [sx_s_1 (i := h0) hh]
  · rw [if_pos rfl]
  · intro j hj hne; rw [if_neg hne]
theorem zs_fe_pt {L N h0 : Nat} (hh : h0 < 2 ^ L) : zs_fe L N [] (fun h => if h = h0 then (N : Int) else 0) 1 := by
  refine ⟨fun h _ => ?_, fun k o hk => absurd hk (Nat.not_lt_zero k), ?_⟩
  · dsimp only; split <;> omega
  · rw [sx_s_pt1 hh]; omega
theorem zs_opt_nil {L N : Nat} : zs_opt L N [] N 1 := by
  have hp := Nat.two_pow_pos L
  refine ⟨by omega, ⟨fun h => if h = 0 then (N : Int) else 0, zs_fe_pt hp, sx_s_pt1 hp⟩, fun X E hE hf => ?_⟩
  have := hf.2.2
  omega
/-- the weights of what is asked together: hidden answers with a look so and another so -/
def zs_w (i u j v : Nat) (h : Nat) : Int := if h / 2 ^ i % 2 = u ∧ h / 2 ^ j % 2 = v then 1 else 0
def zs_tg (L N : Nat) (T : zs_T) (i u j v : Nat) (most : Bool) (z D : Int) : Prop := zs_op2 L N T (fun h => (if most then 1 else -1) * zs_w i u j v h) ((if most then 1 else -1) * z) D
theorem zs_w_le {i u j v h : Nat} : 0 ≤ zs_w i u j v h ∧ zs_w i u j v h ≤ 1 := by
  unfold zs_w; split <;> omega
theorem zs_tg_eq {L N : Nat} {T : zs_T} {i u j v : Nat} {most : Bool} {z D z' D' : Int} (h : zs_tg L N T i u j v most z D) (h' : zs_tg L N T i u j v most z' D') : z * D' = z' * D := by
  have e := zs_op2_eq h h'
  cases most
  · simp only [Bool.false_eq_true, if_false] at e
    grind
  · simp only [if_true, Int.one_mul] at e
    exact e
theorem zs_tg_nn {L N : Nat} {T : zs_T} {i u j v : Nat} {most : Bool} {z D : Int} (h : zs_tg L N T i u j v most z D) : 0 ≤ z := by
  obtain ⟨h1, ⟨X, h2, h3, h4⟩, h5⟩ := h
  have hn : 0 ≤ sx_s (fun h => X h * zs_w i u j v h) (2 ^ L) := sx_s_nn fun h hh => Int.mul_nonneg (h2.1 h hh) zs_w_le.1
  cases most
  · simp only [Bool.false_eq_true, if_false] at h4
    have e : sx_s (fun h => X h * (-1 * zs_w i u j v h)) (2 ^ L) = - sx_s (fun h => X h * zs_w i u j v h) (2 ^ L) := by
      rw [← sx_s_neg]; exact sx_s_congr fun h hh => by grind
    rw [e] at h4
    omega
  · simp only [if_true, Int.one_mul] at h4
    omega
theorem zs_hid {L i j u v : Nat} (hi : i < L) (hj : j < L) (hij : i ≠ j) (hu : u ≤ 1) (hv : v ≤ 1) : ∃ h, h < 2 ^ L ∧ h / 2 ^ i % 2 = u ∧ h / 2 ^ j % 2 = v := by
  have key : ∀ a b : Bool, ∃ h, h < 2 ^ L ∧ h.testBit i = a ∧ h.testBit j = b := by
    intro a b
    refine ⟨(if a then 2 ^ i else 0) ||| (if b then 2 ^ j else 0), ?_, ?_, ?_⟩
    · refine Nat.or_lt_two_pow ?_ ?_
      · split
        · exact Nat.pow_lt_pow_right (by omega) hi
        · exact Nat.two_pow_pos L
      · split
        · exact Nat.pow_lt_pow_right (by omega) hj
        · exact Nat.two_pow_pos L
    · rw [Nat.testBit_or]
      cases a <;> cases b <;> simp [Nat.testBit_two_pow, hij, Ne.symm hij]
    · rw [Nat.testBit_or]
      cases a <;> cases b <;> simp [Nat.testBit_two_pow, hij, Ne.symm hij]
  obtain ⟨h, h1, h2, h3⟩ := key (decide (u = 1)) (decide (v = 1))
  have a1 : h / 2 ^ i % 2 < 2 := Nat.mod_lt _ (by omega)
  have a2 : h / 2 ^ j % 2 < 2 := Nat.mod_lt _ (by omega)
  rw [Nat.testBit_eq_decide_div_mod_eq, decide_eq_decide] at h2 h3
  exact ⟨h, h1, by omega, by omega⟩
theorem zs_tg_nil {L N : Nat} {i u j v : Nat} (hi : i < L) (hj : j < L) (hij : i ≠ j) (hu : u ≤ 1) (hv : v ≤ 1) (most : Bool) : zs_tg L N [] i u j v most (if most then N else 0) 1 := by
  cases most
  · obtain ⟨h0, a1, a2, a3⟩ := zs_hid (u := 1 - u) (v := v) hi hj hij (by omega) hv
    refine ⟨by omega, ⟨fun h => if h = h0 then (N : Int) else 0, zs_fe_pt a1, by rw [sx_s_pt1 a1]; omega, ?_⟩, fun X E hE hf hs => ?_⟩
    · simp only [Bool.false_eq_true, if_false]
      rw [sx_s_pt a1]
      unfold zs_w
      rw [if_neg (by omega)]
      omega
    · simp only [Bool.false_eq_true, if_false]
      have : sx_s (fun h => X h * (-1 * zs_w i u j v h)) (2 ^ L) ≤ 0 := sx_s_np fun h hh => by
        have := Int.mul_nonneg (hf.1 h hh) (zs_w_le (i := i) (u := u) (j := j) (v := v) (h := h)).1
        rw [Int.neg_mul, Int.one_mul, Int.mul_neg]
        omega
      omega
  · obtain ⟨h0, a1, a2, a3⟩ := zs_hid (u := u) (v := v) hi hj hij hu hv
    refine ⟨by omega, ⟨fun h => if h = h0 then (N : Int) else 0, zs_fe_pt a1, by rw [sx_s_pt1 a1]; omega, ?_⟩, fun X E hE hf hs => ?_⟩
    · simp only [if_true]
      rw [sx_s_pt a1]
      unfold zs_w
      rw [if_pos ⟨a2, a3⟩]
      omega
    · simp only [if_true, Int.one_mul]
      have : sx_s (fun h => X h * zs_w i u j v h) (2 ^ L) ≤ sx_s X (2 ^ L) := sx_s_le fun h hh => by
        have h1 := hf.1 h hh
        have h2 := zs_w_le (i := i) (u := u) (j := j) (v := v) (h := h)
        have := Int.mul_le_mul_of_nonneg_left h2.2 h1
        omega
      rw [hs, Int.mul_comm] at this
      exact this
theorem zs_opt_nn {L N : Nat} {T : zs_T} {z D : Int} (h : zs_opt L N T z D) : 0 ≤ z := by
  obtain ⟨h1, ⟨X, h2, h3⟩, h5⟩ := h
  rw [← h3]
  exact sx_s_nn fun h hh => h2.1 h hh
