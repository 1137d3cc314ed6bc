/-! CONTRACTS of the reference: the tableau -/
set_option maxRecDepth 100000
/-- the reference's tableau as rows and columns -/
abbrev tu_f (s : tw_S) : Nat → Nat → Int64 := fun r c => s.2.2.1 (97 * r + c)
/-- what stays while the tableau is written -/
def tu_i (s : tw_S) (g : Nat → Nat → Int64) (s' : tw_S) : Prop := tw_f1 s s' ∧ s'.1 30 = s.1 30 ∧ s'.1 31 = s.1 31 ∧ s'.2.2.2 = s.2.2.2 ∧ s'.2.1 28 = s.2.1 28 ∧ ∀ r c, c < 97 → tu_f s' r c = g r c
theorem tu_pl {s s' : tw_S} {g : Nat → Nat → Int64} (h : tu_i s g s') {i j : Nat} (hj : j < 97) (x : Int64) : tu_i s (fun r c => if r = i ∧ c = j then x else g r c) (tw_pl s' (97 * i + j) x) := by
  obtain ⟨h1, h2, h3, h4, h5, h6⟩ := h
  refine ⟨h1.pl, h2, h3, h4, h5, fun r c hc => ?_⟩
  show (if 97 * r + c = 97 * i + j then x else s'.2.2.1 (97 * r + c)) = if r = i ∧ c = j then x else g r c
  by_cases e : r = i ∧ c = j
  · rw [if_pos (by omega), if_pos e]
  · rw [if_neg (by omega), if_neg e]
    exact h6 r c hc
theorem tu_at {s s' : tw_S} {g : Nat → Nat → Int64} (h : tu_i s g s') {r c : Nat} {x : Int64} (hc : c < 97) (e : g r c = x) : s'.2.2.1 (97 * r + c) = x := (h.2.2.2.2.2 r c hc).trans e
theorem tu_ext {s s' : tw_S} {g g' : Nat → Nat → Int64} (h : tu_i s g s') (e : ∀ r c, c < 97 → g r c = g' r c) : tu_i s g' s' := by
  obtain ⟨h1, h2, h3, h4, h5, h6⟩ := h
  exact ⟨h1, h2, h3, h4, h5, fun r c hc => (h6 r c hc).trans (e r c hc)⟩
section TW15
variable {G : wq_G} {l : Launch} {o : Nat} {ad : Nat → Nat} {h : wq_H} {s : tw_S} {L N : Nat} {T : zs_T}
theorem t_cell (ok : tw_ok G o ad) (i j : Nat) : wq_C G l 0 0 0 mX3_cell [.int (nI i), .int (nI j)] (tw_h G o ad s h) (tw_qi G o ad h fun r s' => r = nI (97 * i + j) ∧ s' = s) := by
  refine wq_C.of pn_X3 (Nat.le_of_ble_eq_true rfl) rfl (vX3_cell_0 ok ⟨?_, rfl⟩)
  rw [nI_lit 97, nI_mul, nI_add]
theorem nI_sub1 {n : Nat} (h : 1 ≤ n) : nI n - 1 = nI (n - 1) := by
  have := nI_pred (n - 1)
  rwa [show n - 1 + 1 = n by omega] at this
theorem t_turnOver (ok : tw_ok G o ad) {m W row col : Nat} (hm : m ≤ 32) (hW : W ≤ 96) (h30 : s.1 30 = nI m) (h31 : s.1 31 = nI (W + 1)) (h0 : ¬ s.2.2.2 = 0) (hr : row < m) (hc : col < W) : wq_C G l 1 0 0 mX3_turnOver [.ref o, .int (nI row), .int (nI col)] (tw_h G o ad s h) (tw_qv G o ad h fun s' => tw_f1 s s' ∧ s'.1 30 = nI m ∧ s'.1 31 = nI (W + 1) ∧ s'.2.2.2 = tu_f s row col ∧ (∀ r, s'.2.1 28 r = if r = row then nI col else s.2.1 28 r) ∧ ∀ r c, r ≤ m + 1 → c ≤ W → tu_f s' r c = lp_pv (tu_f s) s.2.2.2 row col r c) := by
  generalize hK : (fun s' => tw_f1 s s' ∧ s'.1 30 = nI m ∧ s'.1 31 = nI (W + 1) ∧ s'.2.2.2 = tu_f s row col ∧ (∀ r, s'.2.1 28 r = if r = row then nI col else s.2.1 28 r) ∧ ∀ r c, r ≤ m + 1 → c ≤ W → tu_f s' r c = lp_pv (tu_f s) s.2.2.2 row col r c) = K
  have outer : ∀ n i s', i + n = m + 2 → tu_i s (fun r c => if r < i ∧ c ≤ W then lp_pv (tu_f s) s.2.2.2 row col r c else tu_f s r c) s' → tw_T G l o ad h 1 mX3_turnOver (tw_qv G o ad h K) 14 [some (.ref o), some (.int (nI row)), some (.int (nI col)), some (.long (tu_f s row col)), none, some (.int (nI i)), none, none, none] [] s' := by
    intro n
    induction n with
    | zero =>
      intro i s' hi hs
      obtain rfl : i = m + 2 := by omega
      have g30 : s'.1 30 = nI m := hs.2.1.trans h30
      refine vX3_turnOver_14 ok ⟨fun _ => tw_st_n row rfl (by show _ < 32; omega) ?_, fun c => ?_⟩
      · subst hK
        refine ⟨hs.1.pv.pa (by decide), g30, hs.2.2.1.trans h31, rfl, fun r => ?_, fun r c hr hc => ?_⟩
        · show upd (s'.2.1 28) row (nI col) r = _
          unfold upd
          rw [hs.2.2.2.2.1]
        · exact tu_at hs (by omega) (if_pos ⟨by omega, hc⟩)
      · rw [g30, nI_1, nI_ltI (by omega) (by omega)] at c
        omega
    | succ n ih =>
      intro i s' hi hs
      have g30 : s'.1 30 = nI m := hs.2.1.trans h30
      refine vX3_turnOver_14 ok ⟨fun c => ?_, fun _ => ⟨fun c => ?_, fun c => ?_⟩⟩
      · rw [g30, nI_1, nI_ltI (by omega) (by omega)] at c
        omega
      · rw [nI_eq (by omega) (by omega)] at c
        refine tw_ci.eq (by decide) (t_cell ok i col) (tw_ldl_n (97 * i + col) rfl (by omega) ?_)
        have e0 : s'.2.2.1 (97 * i + col) = tu_f s i col := tu_at hs (by omega) (if_neg (by omega))
        rw [e0]
        have inner : ∀ k j s', j + k = W + 1 → tu_i s (fun r c => if (r < i ∨ r = i ∧ c < j) ∧ c ≤ W then lp_pv (tu_f s) s.2.2.2 row col r c else tu_f s r c) s' → tw_T G l o ad h 1 mX3_turnOver (tw_qv G o ad h K) 50 [some (.ref o), some (.int (nI row)), some (.int (nI col)), some (.long (tu_f s row col)), none, some (.int (nI i)), some (.long (tu_f s i col)), none, some (.int (nI j))] [] s' := by
          intro k
          induction k with
          | zero =>
            intro j s' hj hs
            obtain rfl : j = W + 1 := by omega
            have g31 : s'.1 31 = nI (W + 1) := hs.2.2.1.trans h31
            refine vX3_turnOver_50 ok ⟨fun _ => ?_, fun c => ?_⟩
            · rw [nI_1]
              refine ih (i + 1) s' (by omega) (tu_ext hs fun r c hc => ?_)
              try dsimp only
              by_cases q : r < i + 1 ∧ c ≤ W
              · rw [if_pos q, if_pos (by omega)]
              · rw [if_neg q, if_neg (by omega)]
            · rw [g31] at c
              exact absurd (Int32.le_refl _) c
          | succ k ih2 =>
            intro j s' hj hs
            have g31 : s'.1 31 = nI (W + 1) := hs.2.2.1.trans h31
            have gb : s'.2.2.2 = s.2.2.2 := hs.2.2.2.1
            refine vX3_turnOver_50 ok ⟨fun c => ?_, fun _ => ?_⟩
            · rw [g31, nI_leI (by omega) (by omega)] at c
              omega
            · refine tw_ci.eq (by decide) (t_cell ok i j) (tw_ci.eq (by decide) (t_cell ok i j) (tw_ldl_n (97 * i + j) rfl (by omega) (tw_ci.eq (by decide) (t_cell ok row j) (tw_ldl_n (97 * row + j) rfl (by omega) ⟨by rw [gb]; exact h0, tw_stl_n (97 * i + j) rfl (by omega) ?_⟩))))
              have e1 : s'.2.2.1 (97 * i + j) = tu_f s i j := tu_at hs (by omega) (if_neg (by omega))
              have e2 : s'.2.2.1 (97 * row + j) = tu_f s row j := by
                by_cases q : (row < i ∨ row = i ∧ j < j) ∧ j ≤ W
                · exact tu_at hs (by omega) ((if_pos q).trans (if_pos rfl))
                · exact tu_at hs (by omega) (if_neg q)
              rw [e1, e2, gb, nI_1]
              refine ih2 (j + 1) _ (by omega) (tu_ext (tu_pl hs (i := i) (j := j) (by omega) _) fun r c hc => ?_)
              try dsimp only
              by_cases q : r = i ∧ c = j
              · obtain ⟨rfl, rfl⟩ := q
                rw [if_pos ⟨rfl, rfl⟩, if_pos (by omega)]
                unfold lp_pv
                rw [if_neg (by omega)]
              · rw [if_neg q]
                by_cases q2 : (r < i ∨ r = i ∧ c < j) ∧ c ≤ W
                · rw [if_pos q2, if_pos (by omega)]
                · rw [if_neg q2, if_neg (by omega)]
        refine inner (W + 1) 0 s' (by omega) (tu_ext hs fun r c hc => ?_)
        try dsimp only
        by_cases q : r < i ∧ c ≤ W
        · rw [if_pos q, if_pos (by omega)]
        · rw [if_neg q, if_neg (by omega)]
      · rw [nI_eq (by omega) (by omega)] at c
        subst c
        rw [nI_1]
        refine ih (i + 1) s' (by omega) (tu_ext hs fun r c hc => ?_)
        try dsimp only
        by_cases q : r < i ∧ c ≤ W
        · rw [if_pos q, if_pos (by omega)]
        · rw [if_neg q]
          by_cases q2 : r < i + 1 ∧ c ≤ W
          · rw [if_pos q2]
            unfold lp_pv
            rw [if_pos (by omega)]
          · rw [if_neg q2]
  refine wq_C.of pn_X3 (Nat.le_of_ble_eq_true rfl) rfl (vX3_turnOver_0 ok (tw_ci.eq (by decide) (t_cell ok row col) (tw_ldl_n (97 * row + col) rfl (by omega) ?_)))
  refine outer (m + 2) 0 s (by omega) ⟨tw_f1.refl s, rfl, rfl, rfl, rfl, fun r c hc => ?_⟩
  exact (if_neg (by omega)).symm
theorem t_bounding (ok : tw_ok G o ad) {A : Nat → Nat → Int} {m W q col : Nat} {b : Nat → Nat} (hm : m ≤ 32) (hW : W ≤ 96) (h30 : s.1 30 = nI m) (h31 : s.1 31 = nI (W + 1)) (hb : ∀ r, r < m → s.2.1 28 r = nI (b r)) (iv : lp_iv A m W b q (tu_f s) s.2.2.2) (bs : lp_bs A m W) (sok : sx_ok A m W b) (hc : col < W) (hp : ∃ r, r < m ∧ 0 < sx_t A m b r col) : wq_C G l 1 0 0 mX3_bounding [.ref o, .int (nI col)] (tw_h G o ad s h) (tw_qi G o ad h fun r s' => (∃ r0, r = nI r0 ∧ sx_lea A m W b col r0) ∧ s' = s) := by
  refine wq_C.of pn_X3 (Nat.le_of_ble_eq_true rfl) rfl (vX3_bounding_0 ok ?_)
  generalize hQ : (fun (r : Int32) (s' : tw_S) => (∃ r0, r = nI r0 ∧ sx_lea A m W b col r0) ∧ s' = s) = Q
  have hy : ∀ r, r < m → s.2.2.1 (97 * r + col) = jJ (sx_t A m b r col) := fun r hr => iv.2.1 r col hr (by omega)
  have hx : ∀ r, r < m → s.2.2.1 (97 * r + W) = jJ (sx_t A m b r W) := fun r hr => iv.2.1 r W hr (by omega)
  have by1 : ∀ r, r < m → (sx_t A m b r col).natAbs ≤ 100000000 := fun r hr => (bs.2 b sok.2.1 r (by omega)).1 col hc
  have bx1 : ∀ r, r < m → (sx_t A m b r W).natAbs ≤ 18000000000 := fun r hr => (bs.2 b sok.2.1 r (by omega)).2
  have two : ∀ n i r, i + n = m → lpb (fun j => sx_t A m b j W) (fun j => sx_t A m b j col) b i r → tw_T G l o ad h 1 mX3_bounding (tw_qi G o ad h Q) 4 [some (.ref o), some (.int (nI col)), some (.int (nI r)), some (.int (nI i)), none, none, none, none, none, none, none, none] [] s := by
    intro n
    induction n with
    | zero =>
      intro i r hi hl
      obtain rfl : i = m := by omega
      subst hQ
      refine vX3_bounding_4 ok ⟨fun _ => ⟨⟨r, rfl, hl⟩, rfl⟩, fun c => ?_⟩
      rw [h30] at c
      exact absurd (Int32.le_refl _) c
    | succ n ih =>
      intro i r hi hl
      have hr := hl.1
      refine vX3_bounding_4 ok ⟨fun c => ?_, fun _ => tw_ci.eq (by decide) (t_cell ok i col) (tw_ldl_n (97 * i + col) rfl (by omega) ⟨fun c => ⟨fun _ => ?_, fun c2 => ?_⟩, fun c => ?_⟩)⟩
      · rw [h30, nI_leI (by omega) (by omega)] at c
        omega
      · rw [lg_cmp_gt, hy i (by omega), jJ_lit 0, jJ_lt (by omega) (by omega) (by have := by1 i (by omega); omega) (by have := by1 i (by omega); omega)] at c
        refine tw_ci.eq (by decide) (t_cell ok r col) (tw_ldl_n (97 * r + col) rfl (by omega) ?_)
        rw [h31, nI_sub1 (by omega), Nat.add_sub_cancel]
        refine tw_ci.eq (by decide) (t_cell ok i W) (tw_ldl_n (97 * i + W) rfl (by omega) ?_)
        rw [h31, nI_sub1 (by omega), Nat.add_sub_cancel]
        refine tw_ci.eq (by decide) (t_cell ok r W) (tw_ldl_n (97 * r + W) rfl (by omega) ?_)
        rw [hy i (by omega), hy r (by omega), hx i (by omega), hx r (by omega), jJ_mul, jJ_mul, lg_cmp_lt, lg_cmp_eq]
        have p1 := nab_mul (bx1 i (by omega)) (by1 r (by omega))
        have p2 := nab_mul (bx1 r (by omega)) (by1 i (by omega))
        rw [jJ_lt (by omega) (by omega) (by omega) (by omega), jJ_inj (by omega) (by omega) (by omega) (by omega)]
        have ib := sok.2.1 i (by omega)
        have rb := sok.2.1 r (by omega)
        refine ⟨fun c3 => ?_, fun c3 => ⟨fun c4 => ?_, fun c4 => tw_ld_n i rfl (by show _ < 32; omega) (tw_ld_n r rfl (by show _ < 32; omega) ?_)⟩⟩
        · rw [nI_1]
          exact ih (i + 1) i (by omega) (lpb_new hl (by simpa using c) (Or.inl c3))
        · rw [nI_1]
          exact ih (i + 1) r (by omega) (lpb_keep hl c3 (fun e => absurd e c4))
        · rw [hb i (by omega), hb r (by omega), nI_leI (by omega) (by omega)]
          refine ⟨fun c5 => ?_, fun c5 => ?_⟩
          · rw [nI_1]
            exact ih (i + 1) r (by omega) (lpb_keep hl c3 (fun _ => c5))
          · rw [nI_1]
            exact ih (i + 1) i (by omega) (lpb_new hl (by simpa using c) (Or.inr ⟨c4, by omega⟩))
      · exact absurd (nI_pos' (by omega)) c2
      · rw [lg_cmp_gt, hy i (by omega), jJ_lit 0, jJ_lt (by omega) (by omega) (by have := by1 i (by omega); omega) (by have := by1 i (by omega); omega)] at c
        rw [nI_1]
        exact ih (i + 1) r (by omega) (lpb_skip hl (by simpa using c))
  have one : ∀ n i, i + n = m → (∀ j, j < i → sx_t A m b j col ≤ 0) → tw_T G l o ad h 1 mX3_bounding (tw_qi G o ad h Q) 4 [some (.ref o), some (.int (nI col)), some (.int (-1)), some (.int (nI i)), none, none, none, none, none, none, none, none] [] s := by
    intro n
    induction n with
    | zero =>
      intro i hi hl
      obtain rfl : i = m := by omega
      obtain ⟨r, hr, hp⟩ := hp
      have := hl r hr
      omega
    | succ n ih =>
      intro i hi hl
      refine vX3_bounding_4 ok ⟨fun c => ?_, fun _ => tw_ci.eq (by decide) (t_cell ok i col) (tw_ldl_n (97 * i + col) rfl (by omega) ⟨fun c => ⟨fun c2 => absurd c2 (by decide), fun c2 => ?_⟩, fun c => ?_⟩)⟩
      · rw [h30, nI_leI (by omega) (by omega)] at c
        omega
      · rw [lg_cmp_gt, hy i (by omega), jJ_lit 0, jJ_lt (by omega) (by omega) (by have := by1 i (by omega); omega) (by have := by1 i (by omega); omega)] at c
        rw [nI_1]
        exact two n (i + 1) i (by omega) (lpb_first hl (by simpa using c))
      · rw [lg_cmp_gt, hy i (by omega), jJ_lit 0, jJ_lt (by omega) (by omega) (by have := by1 i (by omega); omega) (by have := by1 i (by omega); omega)] at c
        rw [nI_1]
        refine ih (i + 1) (by omega) fun j hj => ?_
        by_cases e : j = i
        · subst e; omega
        · exact hl j (by omega)
  exact one m 0 (by omega) (fun j hj => by omega)
end TW15
