/-! CONTRACTS of the reference: the tableau laid; mixed, share -/
set_option maxRecDepth 100000
theorem j0 : (0 : Int64) = jJ 0 := rfl
theorem j1 : (1 : Int64) = jJ 1 := rfl
theorem jm1 : (-1 : Int64) = jJ (-1) := rfl
theorem jJ_n {n : Nat} (h : n < 2 ^ 31) : (nI n).toInt64 = jJ n := by
  rw [nI_iI, jJ_i (by omega) (by omega)]
theorem lp_bsA {L N : Nat} {T : zs_T} {u : Nat} {aim : Nat → Int} (hok : zs_ok L N T) (hL : L ≤ 6) (hu : u ≤ 1) (hN : N ≤ 60) (ha : ∀ h, h < 2 ^ L → aim h * aim h ≤ 1) (hm : 1 ≤ lp_m T u) : lp_bs (lp_A L N T u aim) (lp_m T u) (2 ^ L + lp_m T u) := by
  refine ⟨hm, fun b hb r hr => ⟨fun c hc => ?_, ?_⟩⟩
  · have := lp_bd (N := N) (aim := aim) (r := r) hok hL hu ha hb hc
    omega
  · have := lp_bdb (N := N) (aim := aim) (r := r) hok hL hu hN ha hb hr
    omega
theorem lp_A2 {L N : Nat} {T : zs_T} {u : Nat} {aim : Nat → Int} (hu : u = 1 ∨ u = 0 ∧ 0 < T.length) {c : Nat} (hc : c < 2 ^ L + lp_m T u) : ∃ i, i < lp_m T u ∧ 0 < lp_A L N T u aim c i := by
  by_cases q : c < 2 ^ L
  · rcases hu with rfl | ⟨rfl, hT⟩
    · exact ⟨0, by unfold lp_m; omega, by rw [lp_all q (by omega)]; decide⟩
    · have hf := zs_fit_lt (zs_at T 0) c
      have h1 := lp_ro_mono T (show 0 + 1 ≤ T.length by omega)
      simp only [lp_ro] at h1
      refine ⟨0 + (lp_ro T 0 + zs_fit (zs_at T 0) c), by unfold lp_m; simp only [lp_ro]; omega, ?_⟩
      rw [lp_out q hT hf, if_pos rfl]; decide
  · refine ⟨c - 2 ^ L, by omega, ?_⟩
    have := lp_slack (L := L) (N := N) (T := T) (u := u) (aim := aim) (r := c - 2 ^ L) (i := c - 2 ^ L) (by omega)
    rw [show 2 ^ L + (c - 2 ^ L) = c by omega, if_pos rfl] at this
    rw [this]; decide
theorem lp_A0 {L N : Nat} {T : zs_T} {u : Nat} {aim : Nat → Int} : ∀ r c, r < lp_m T u → c < 2 ^ L + lp_m T u → 0 ≤ lp_A L N T u aim c r := by
  intro r c hr hc
  by_cases q : c < 2 ^ L
  · exact lp_sl.2.2 c r q hr
  · have := lp_slack (L := L) (N := N) (T := T) (u := u) (aim := aim) (r := c - 2 ^ L) (i := r) (by omega)
    rw [show 2 ^ L + (c - 2 ^ L) = c by omega] at this
    rw [this]; split <;> omega
theorem lp_A3 {L N : Nat} {T : zs_T} {u : Nat} {aim : Nat → Int} : ∀ r, r < lp_m T u → 0 ≤ lp_A L N T u aim (2 ^ L + lp_m T u) r := by
  intro r hr
  rcases lp_row hr with c | ⟨k, o, hk, ho, rfl⟩
  · rw [lp_rhsA c]; omega
  · rw [lp_rhs hk ho]; omega
/-- while the tableau is laid -/
def ty_i (s : tw_S) (m W i w0 : Nat) (g : Nat → Nat → Int64) (s' : tw_S) : Prop := tw_f1 s s' ∧ s'.1 30 = nI m ∧ s'.1 31 = nI (W + 1) ∧ (∀ r, r < i → s'.2.1 28 r = nI (w0 + r)) ∧ ∀ r c, r ≤ m + 1 → c ≤ W → tu_f s' r c = g r c
theorem ty_pl {s s' : tw_S} {m W i w0 : Nat} {g g' : Nat → Nat → Int64} (hW : W ≤ 96) (h : ty_i s m W i w0 g s') {a c : Nat} (hc : c ≤ W) {x : Int64} (e : ∀ r j, r ≤ m + 1 → j ≤ W → (if r = a ∧ j = c then x else g r j) = g' r j) : ty_i s m W i w0 g' (tw_pl s' (97 * a + c) x) := by
  obtain ⟨h1, h2, h3, h4, h5⟩ := h
  refine ⟨h1.pl, h2, h3, h4, fun r j hr hj => ?_⟩
  rw [← e r j hr hj]
  show (if 97 * r + j = 97 * a + c then x else s'.2.2.1 (97 * r + j)) = if r = a ∧ j = c then x else g r j
  by_cases q : r = a ∧ j = c
  · rw [if_pos (by omega), if_pos q]
  · rw [if_neg (by omega), if_neg q]
    exact h5 r j hr hj
section TW17
variable {G : wq_G} {l : Launch} {o : Nat} {ad : Nat → Nat} {h : wq_H} {s : tw_S} {L N : Nat} {T : zs_T}
theorem t_layTab (ok : tw_ok G o ad) (hq : tr_q s L N T) : wq_C G l 1 0 0 mX3_layTab [.ref o] (tw_h G o ad s h) (tw_qv G o ad h fun s' => ty_i s (lp_m T 0) (2 ^ L + lp_m T 0) (lp_m T 0) (2 ^ L) (fun r c => jJ (if r ≤ lp_m T 0 then lp_A L N T 0 (fun _ => -1) c r else 0)) s' ∧ s'.2.2.2 = jJ 1) := by
  have h8 := tr_8 hq
  have hL := hq.2.2.2.2.2.1
  have hN := hq.2.2.2.2.2.2
  have hp := pow_64 hL.2
  have hp0 := Nat.two_pow_pos L
  have hR : lp_m T 0 = lp_ro T T.length := Nat.zero_add _
  have hR2 := lp_ro_le T T.length
  generalize hK : (fun s' => ty_i s (lp_m T 0) (2 ^ L + lp_m T 0) (lp_m T 0) (2 ^ L) (fun r c => jJ (if r ≤ lp_m T 0 then lp_A L N T 0 (fun _ => -1) c r else 0)) s' ∧ s'.2.2.2 = jJ 1) = K
  generalize hW : 2 ^ L + lp_m T 0 = W at *
  -- the aim
  have aim : ∀ n x s', x + n = 2 ^ L → ty_i s (lp_m T 0) W (lp_m T 0) (2 ^ L) (fun r c => jJ (if r < lp_m T 0 ∨ r = lp_m T 0 ∧ c < x then lp_A L N T 0 (fun _ => -1) c r else 0)) s' → tw_T G l o ad h 1 mX3_layTab (tw_qv G o ad h K) 221 [some (.ref o), some (.int (nI (2 ^ L))), none, some (.int (nI x)), none, none] [] s' := by
    intro n
    induction n with
    | zero =>
      intro x s' hx hs
      obtain rfl : x = 2 ^ L := by omega
      refine vX3_layTab_221 ok ⟨fun _ => ?_, fun c => absurd (Int32.le_refl _) c⟩
      subst hK
      refine ⟨⟨hs.1.pv, hs.2.1, hs.2.2.1, hs.2.2.2.1, fun r c hr hc => ?_⟩, rfl⟩
      have e := hs.2.2.2.2 r c hr hc
      show tu_f s' r c = _
      rw [e]
      show jJ (if r < lp_m T 0 ∨ r = lp_m T 0 ∧ c < 2 ^ L then _ else 0) = jJ (if r ≤ lp_m T 0 then _ else 0)
      by_cases q : r < lp_m T 0 ∨ r = lp_m T 0 ∧ c < 2 ^ L
      · rw [if_pos q, if_pos (by omega)]
      · rw [if_neg q]
        by_cases q2 : r ≤ lp_m T 0
        · rw [if_pos q2]
          have q3 : r = lp_m T 0 := by omega
          by_cases q4 : c = W
          · rw [q4, q3, ← hW, lp_rhs0]
          · have := lp_slack (L := L) (N := N) (T := T) (u := 0) (aim := fun _ => -1) (r := c - 2 ^ L) (i := r) (by omega)
            rw [show 2 ^ L + (c - 2 ^ L) = c by omega, if_neg (by omega)] at this
            rw [this]
        · rw [if_neg q2]
    | succ n ih =>
      intro x s' hx hs
      refine vX3_layTab_221 ok ⟨fun c => ?_, fun _ => ?_⟩
      · rw [nI_leI (by omega) (by omega)] at c
        omega
      · rw [hs.2.1]
        refine tw_ci.eq (by decide) (t_cell ok (lp_m T 0) x) (tw_stl_n (97 * lp_m T 0 + x) rfl (by omega) ?_)
        rw [nI_1]
        refine ih (x + 1) _ (by omega) (ty_pl (by omega) hs (by omega) fun r j hr hj => ?_)
        by_cases q : r = lp_m T 0 ∧ j = x
        · rw [if_pos q, if_pos (by omega), q.1, q.2, lp_aim (by omega)]; rfl
        · rw [if_neg q]
          by_cases q2 : r < lp_m T 0 ∨ r = lp_m T 0 ∧ j < x
          · rw [if_pos q2, if_pos (by omega)]
          · rw [if_neg q2, if_neg (by omega)]
  -- the sets
  have sets : ∀ n k s', k + n = T.length → ty_i s (lp_m T 0) W (lp_ro T k) (2 ^ L) (fun r c => jJ (if r < lp_ro T k then lp_A L N T 0 (fun _ => -1) c r else 0)) s' → tw_T G l o ad h 1 mX3_layTab (tw_qv G o ad h K) 83 [some (.ref o), some (.int (nI (2 ^ L))), some (.int (nI (lp_ro T k))), some (.int (nI k)), none, none] [] s' := by
    intro n
    induction n with
    | zero =>
      intro k s' hk hs
      obtain rfl : k = T.length := by omega
      have hq' := hq.f1 hs.1
      refine vX3_layTab_83 ok (tw_ld_n 0 rfl (by decide) ?_)
      rw [show s'.2.1 15 0 = nI T.length from hq'.1.1]
      refine ⟨fun _ => ?_, fun c => absurd (Int32.le_refl _) c⟩
      refine aim (2 ^ L) 0 s' (by omega) ⟨hs.1, hs.2.1, hs.2.2.1, fun r hr => hs.2.2.2.1 r (by omega), fun r c hr hc => (hs.2.2.2.2 r c hr hc).trans ?_⟩
      rw [← hR]
      dsimp only
      by_cases q : r < lp_m T 0
      · rw [if_pos q, if_pos (by omega)]
      · rw [if_neg q, if_neg (by omega)]
    | succ n ih =>
      intro k s' hk hs
      have hro := lp_ro_mono T (show k + 1 ≤ T.length by omega)
      have hro2 : lp_ro T (k + 1) = lp_ro T k + zs_out (zs_at T k) := rfl
      have ho4 := zs_out_le (zs_at T k)
      have outs : ∀ n o' s', o' + n = zs_out (zs_at T k) → ty_i s (lp_m T 0) W (lp_ro T k + o') (2 ^ L) (fun r c => jJ (if r < lp_ro T k + o' then lp_A L N T 0 (fun _ => -1) c r else 0)) s' → tw_T G l o ad h 1 mX3_layTab (tw_qv G o ad h K) 96 [some (.ref o), some (.int (nI (2 ^ L))), some (.int (nI (lp_ro T k + o'))), some (.int (nI k)), some (.int (nI o')), none] [] s' := by
        intro n
        induction n with
        | zero =>
          intro o' s' ho hs
          obtain rfl : o' = zs_out (zs_at T k) := by omega
          have hq' := hq.f1 hs.1
          refine vX3_layTab_96 ok (tw_ci.eq (by decide) (t_outcomes ok hq' (k := k) (by omega)) ⟨fun _ => ?_, fun c => absurd (Int32.le_refl _) c⟩)
          rw [nI_1]
          exact ih (k + 1) s' (by omega) hs
        | succ n ih3 =>
          intro o' s' ho hs
          have hq' := hq.f1 hs.1
          refine vX3_layTab_96 ok (tw_ci.eq (by decide) (t_outcomes ok hq' (k := k) (by omega)) ⟨fun c => ?_, fun _ => ?_⟩)
          · rw [nI_leI (by omega) (by omega)] at c
            omega
          · have hid : ∀ n x s', x + n = 2 ^ L → ty_i s (lp_m T 0) W (lp_ro T k + o') (2 ^ L) (fun r c => jJ (if r < lp_ro T k + o' ∨ r = lp_ro T k + o' ∧ c < x then lp_A L N T 0 (fun _ => -1) c r else 0)) s' → tw_T G l o ad h 1 mX3_layTab (tw_qv G o ad h K) 112 [some (.ref o), some (.int (nI (2 ^ L))), some (.int (nI (lp_ro T k + o'))), some (.int (nI k)), some (.int (nI o')), some (.int (nI x))] [] s' := by
              intro n
              induction n with
              | zero =>
                intro x s' hx hs
                obtain rfl : x = 2 ^ L := by omega
                have hq' := hq.f1 hs.1
                refine vX3_layTab_112 ok ⟨fun _ => ?_, fun c => absurd (Int32.le_refl _) c⟩
                rw [nI_add]
                refine tw_ci.eq (by decide) (t_cell ok (lp_ro T k + o') (2 ^ L + (lp_ro T k + o'))) (tw_stl_n (97 * (lp_ro T k + o') + (2 ^ L + (lp_ro T k + o'))) rfl (by omega) ?_)
                have e31 : (tw_pl s' (97 * (lp_ro T k + o') + (2 ^ L + (lp_ro T k + o'))) 1).1 31 - 1 = nI W := by
                  show s'.1 31 - 1 = _
                  rw [hs.2.2.1, nI_sub1 (by omega), Nat.add_sub_cancel]
                rw [e31]
                refine tw_ci.eq (by decide) (t_cell ok (lp_ro T k + o') W) (tw_ld_n (17 + 4 * k + o') (by rw [nI_lit 17, nI_lit 4, nI_mul, nI_add, nI_add]) (by show _ < 346; omega) ?_)
                have et : (tw_pl s' (97 * (lp_ro T k + o') + (2 ^ L + (lp_ro T k + o'))) 1).2.1 15 (17 + 4 * k + o') = nI ((zs_at T k).2.2.1 o') := (tr_at hq' (by omega)).2.2.1 o' (by omega)
                have htm := ok_tm hq.2.2.1 (k := k) (by omega) (o := o') (by omega)
                rw [et, jJ_n (by omega)]
                refine tw_stl_n (97 * (lp_ro T k + o') + W) rfl (by omega) (tw_st_n (lp_ro T k + o') rfl (by show _ < 32; omega) ?_)
                rw [nI_1, nI_1, Nat.add_assoc]
                have hs2 := ty_pl (g' := fun r c => jJ (if r < lp_ro T k + o' ∨ r = lp_ro T k + o' ∧ c < W then lp_A L N T 0 (fun _ => -1) c r else 0)) (by omega) hs (a := lp_ro T k + o') (c := 2 ^ L + (lp_ro T k + o')) (by omega) (x := 1) (fun r j hr hj => by
                  by_cases q : r = lp_ro T k + o' ∧ j = 2 ^ L + (lp_ro T k + o')
                  · rw [if_pos q, if_pos (by omega), q.1, q.2, lp_slack (by omega), if_pos rfl]; rfl
                  · rw [if_neg q]
                    by_cases q2 : r < lp_ro T k + o' ∨ r = lp_ro T k + o' ∧ j < 2 ^ L
                    · rw [if_pos q2, if_pos (by omega)]
                    · rw [if_neg q2]
                      by_cases q3 : r < lp_ro T k + o' ∨ r = lp_ro T k + o' ∧ j < W
                      · rw [if_pos q3]
                        have := lp_slack (L := L) (N := N) (T := T) (u := 0) (aim := fun _ => -1) (r := j - 2 ^ L) (i := r) (by omega)
                        rw [show 2 ^ L + (j - 2 ^ L) = j by omega, if_neg (by omega)] at this
                        rw [this]
                      · rw [if_neg q3])
                have hs3 := ty_pl (g' := fun r c => jJ (if r < lp_ro T k + (o' + 1) then lp_A L N T 0 (fun _ => -1) c r else 0)) (by omega) hs2 (a := lp_ro T k + o') (c := W) (by omega) (x := jJ ((zs_at T k).2.2.1 o' : Nat)) (fun r j hr hj => by
                  by_cases q : r = lp_ro T k + o' ∧ j = W
                  · have := lp_rhs (L := L) (N := N) (T := T) (u := 0) (aim := fun _ => -1) (k := k) (o := o') (by omega) (by omega)
                    rw [hW, Nat.zero_add] at this
                    rw [if_pos q, if_pos (by omega), q.1, q.2, this]
                  · rw [if_neg q]
                    by_cases q2 : r < lp_ro T k + o' ∨ r = lp_ro T k + o' ∧ j < W
                    · rw [if_pos q2, if_pos (by omega)]
                    · rw [if_neg q2, if_neg (by omega)])
                refine ih3 (o' + 1) _ (by omega) ⟨hs3.1.pa (by decide), hs3.2.1, hs3.2.2.1, fun r hr => ?_, hs3.2.2.2.2⟩
                show upd (s'.2.1 28) (lp_ro T k + o') (nI (2 ^ L + (lp_ro T k + o'))) r = nI (2 ^ L + r)
                unfold upd
                by_cases q : r = lp_ro T k + o'
                · rw [if_pos q, q]
                · rw [if_neg q]
                  exact hs.2.2.2.1 r (by omega)
              | succ n ih4 =>
                intro x s' hx hs
                have hq' := hq.f1 hs.1
                have hA := lp_out (L := L) (N := N) (T := T) (u := 0) (aim := fun _ => -1) (h := x) (k := k) (o := o') (by omega) (by omega) (by omega)
                rw [Nat.zero_add] at hA
                have hf := zs_fit_lt (zs_at T k) x
                refine vX3_layTab_112 ok ⟨fun c => ?_, fun _ => tw_ci.eq (by decide) (t_cell ok (lp_ro T k + o') x) (tw_ci.eq (by decide) (t_fitted ok hq' (by omega) (by omega)) ⟨fun c => tw_stl_n (97 * (lp_ro T k + o') + x) rfl (by omega) ?_, fun c => tw_stl_n (97 * (lp_ro T k + o') + x) rfl (by omega) ?_⟩)⟩
                · rw [nI_leI (by omega) (by omega)] at c
                  omega
                · rw [nI_eq (by omega) (by omega)] at c
                  rw [if_neg c] at hA
                  rw [nI_1]
                  refine ih4 (x + 1) _ (by omega) (ty_pl (by omega) hs (by omega) fun r j hr hj => ?_)
                  by_cases q : r = lp_ro T k + o' ∧ j = x
                  · rw [if_pos q, if_pos (by omega), q.1, q.2, hA]; rfl
                  · rw [if_neg q]
                    by_cases q2 : r < lp_ro T k + o' ∨ r = lp_ro T k + o' ∧ j < x
                    · rw [if_pos q2, if_pos (by omega)]
                    · rw [if_neg q2, if_neg (by omega)]
                · rw [nI_eq (by omega) (by omega)] at c
                  rw [if_pos c] at hA
                  rw [nI_1]
                  refine ih4 (x + 1) _ (by omega) (ty_pl (by omega) hs (by omega) fun r j hr hj => ?_)
                  by_cases q : r = lp_ro T k + o' ∧ j = x
                  · rw [if_pos q, if_pos (by omega), q.1, q.2, hA]; rfl
                  · rw [if_neg q]
                    by_cases q2 : r < lp_ro T k + o' ∨ r = lp_ro T k + o' ∧ j < x
                    · rw [if_pos q2, if_pos (by omega)]
                    · rw [if_neg q2, if_neg (by omega)]
            refine hid (2 ^ L) 0 s' (by omega) ⟨hs.1, hs.2.1, hs.2.2.1, hs.2.2.2.1, fun r c hr hc => (hs.2.2.2.2 r c hr hc).trans ?_⟩
            dsimp only
            by_cases q : r < lp_ro T k + o'
            · rw [if_pos q, if_pos (by omega)]
            · rw [if_neg q, if_neg (by omega)]
      have hq' := hq.f1 hs.1
      refine vX3_layTab_83 ok (tw_ld_n 0 rfl (by decide) ?_)
      rw [show s'.2.1 15 0 = nI T.length from hq'.1.1]
      refine ⟨fun c => ?_, fun _ => outs (zs_out (zs_at T k)) 0 s' (by omega) hs⟩
      rw [nI_leI (by omega) (by omega)] at c
      omega
  -- nothing
  have zero : ∀ n x s', x + n = 3298 → tw_f1 s s' → s'.1 30 = nI (lp_m T 0) → s'.1 31 = nI (W + 1) → (∀ j, j < x → s'.2.2.1 j = 0) → tw_T G l o ad h 1 mX3_layTab (tw_qv G o ad h K) 59 [some (.ref o), some (.int (nI (2 ^ L))), some (.int (nI x)), none, none, none] [] s' := by
    intro n
    induction n with
    | zero =>
      intro x s' hx h1 h2 h3 h4
      obtain rfl : x = 3298 := by omega
      refine vX3_layTab_59 ok ⟨fun _ => ?_, fun c => absurd (by decide) c⟩
      refine sets T.length 0 s' (by omega) ⟨h1, h2, h3, fun r hr => absurd hr (Nat.not_lt_zero r), fun r c hr hc => ?_⟩
      show s'.2.2.1 (97 * r + c) = jJ (if r < 0 then _ else 0)
      rw [if_neg (by omega), h4 _ (by omega)]; rfl
    | succ n ih =>
      intro x s' hx h1 h2 h3 h4
      refine vX3_layTab_59 ok ⟨fun c => ?_, fun _ => tw_stl_n x rfl (by omega) ?_⟩
      · rw [nI_lit 3298, nI_leI (by omega) (by omega)] at c
        omega
      · rw [nI_1]
        refine ih (x + 1) _ (by omega) h1.pl h2 h3 fun j hj => ?_
        show (if j = x then 0 else s'.2.2.1 j) = 0
        by_cases q : j = x
        · rw [if_pos q]
        · rw [if_neg q]; exact h4 j (by omega)
  have rows : ∀ n k s', k + n = T.length → tw_f1 s s' → s'.1 30 = nI (lp_ro T k) → tw_T G l o ad h 1 mX3_layTab (tw_qv G o ad h K) 12 [some (.ref o), some (.int (nI (2 ^ L))), some (.int (nI k)), none, none, none] [] s' := by
    intro n
    induction n with
    | zero =>
      intro k s' hk h1 h2
      obtain rfl : k = T.length := by omega
      have hq' := hq.f1 h1
      refine vX3_layTab_12 ok (tw_ld_n 0 rfl (by decide) ?_)
      rw [show s'.2.1 15 0 = nI T.length from hq'.1.1]
      refine ⟨fun _ => ?_, fun c => absurd (Int32.le_refl _) c⟩
      refine zero 3298 0 _ (by omega) (h1.pi (by decide)) (by rw [hR]; exact h2) ?_ (fun j hj => by omega)
      rw [pi_eq, h2, nI_add, nI_1, ← hR, hW]
    | succ n ih =>
      intro k s' hk h1 h2
      have hq' := hq.f1 h1
      refine vX3_layTab_12 ok (tw_ld_n 0 rfl (by decide) ?_)
      rw [show s'.2.1 15 0 = nI T.length from hq'.1.1]
      refine ⟨fun c => ?_, fun _ => tw_ci.eq (by decide) (t_outcomes ok hq' (k := k) (by omega)) ?_⟩
      · rw [nI_leI (by omega) (by omega)] at c
        omega
      · rw [h2, nI_add, nI_1]
        exact ih (k + 1) _ (by omega) (h1.pi (by decide)) pi_eq
  refine wq_C.of pn_X3 (Nat.le_of_ble_eq_true rfl) rfl (vX3_layTab_0 ok (tw_ci.eq (by decide) (t_hiddenMany ok hq) ?_))
  exact rows T.length 0 _ (by omega) ((tw_f1.refl s).pi (by decide)) pi_eq
end TW17
