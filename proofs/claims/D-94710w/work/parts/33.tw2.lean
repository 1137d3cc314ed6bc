/-! CONTRACTS of the reference: what is asked of its table -/
set_option maxRecDepth 100000
/-- what the reference holds of a book's table -/
def tr_q (s : tw_S) (L N : Nat) (T : zs_T) : Prop := ta_tab (s.2.1 15) T ∧ ta_coin (s.2.1 17) T ∧ zs_ok L N T ∧ s.2.1 15 50 = nI L ∧ s.2.1 15 49 = nI N ∧ (1 ≤ L ∧ L ≤ 6) ∧ 1 ≤ N ∧ N ≤ 60
section TW2
variable {G : wq_G} {l : Launch} {o : Nat} {ad : Nat → Nat} {h : wq_H} {s : tw_S} {L N : Nat} {T : zs_T}
theorem tw_ci.eq {d d' : Nat} {M : wq_M} {args : List Value} {v : Int32} {K : Int32 → tw_S → Prop} (hd : d' < d) (c : wq_C G l d' 0 0 M args (tw_h G o ad s h) (tw_qi G o ad h fun r s' => r = v ∧ s' = s)) (k : K v s) : tw_ci G l o ad h d M args s K :=
  tw_ci.use hd c (fun x s' q => by rw [q.1, q.2]; exact k)
theorem tw_cv.eq {d d' : Nat} {M : wq_M} {args : List Value} {s1 : tw_S} {K : tw_S → Prop} (hd : d' < d) (c : wq_C G l d' 0 0 M args (tw_h G o ad s h) (tw_qv G o ad h fun s' => s' = s1)) (k : K s1) : tw_cv G l o ad h d M args s K :=
  tw_cv.use hd c (fun s' q => by rw [q]; exact k)
theorem tr_at (hq : tr_q s L N T) {k : Nat} (hk : k < T.length) : s.2.1 15 (1 + k) = nI (zs_at T k).1 ∧ s.2.1 15 (9 + k) = ta_sec (zs_at T k).2.1 ∧ (∀ o, o < zs_out (zs_at T k) → s.2.1 15 (17 + 4 * k + o) = nI ((zs_at T k).2.2.1 o)) ∧ ∀ o, o < zs_out (zs_at T k) → s.2.1 17 (4 * k + o) = nI ((zs_at T k).2.2.2 o) := by
  have h1 := hq.1.2 k _ (zs_get hk)
  exact ⟨h1.1, h1.2.1, h1.2.2, hq.2.1 k _ (zs_get hk)⟩
theorem tr_8 (hq : tr_q s L N T) : T.length ≤ 8 := hq.2.2.1.1
theorem tr_sec (hq : tr_q s L N T) {k : Nat} (hk : k < T.length) : ta_sec (zs_at T k).2.1 = -2 ↔ (zs_at T k).2.1 = none :=
  ta_sec_none (fun x hx => by have := ((ok_get hq.2.2.1 hk).2.1 x hx).1; have := hq.2.2.2.2.2.1.2; omega)
theorem t_outcomes (ok : tw_ok G o ad) (hq : tr_q s L N T) {k : Nat} (hk : k < T.length) : wq_C G l 0 0 0 mX3_outcomes [.ref (ad 15), .int (nI k)] (tw_h G o ad s h) (tw_qi G o ad h fun r s' => r = nI (zs_out (zs_at T k)) ∧ s' = s) := by
  have h8 := tr_8 hq
  have h1 := (tr_at hq hk).2.1
  have h2 := tr_sec hq hk
  refine wq_C.of pn_X3 (Nat.le_of_ble_eq_true rfl) rfl (vX3_outcomes_0 ok mia15 (tw_ld_n (9 + k) (by rw [nI_lit 9, nI_add]) (by show 9 + k < 346; omega) ?_))
  rw [h1]
  refine ⟨fun c => ⟨?_, rfl⟩, fun c => ⟨?_, rfl⟩⟩
  · unfold zs_out
    split
    · rename_i e
      exact absurd (h2.mpr e) c
    · rfl
  · rw [zs_out, h2.mp c]
    rfl
theorem t_hiddenMany (ok : tw_ok G o ad) (hq : tr_q s L N T) : wq_C G l 0 0 0 mX3_hiddenMany [.ref o] (tw_h G o ad s h) (tw_qi G o ad h fun r s' => r = nI (2 ^ L) ∧ s' = s) := by
  have h1 := hq.2.2.2.1
  have h2 := hq.2.2.2.2.2.1
  refine wq_C.of pn_X3 (Nat.le_of_ble_eq_true rfl) rfl (vX3_hiddenMany_0 ok (tw_ld_n 50 rfl (by decide) ?_))
  rw [h1]
  exact ⟨nI_shl (by omega), rfl⟩
theorem pow_64 {L : Nat} (h : L ≤ 6) : 2 ^ L ≤ 64 := by
  have : 2 ^ L ≤ 2 ^ 6 := Nat.pow_le_pow_right (by omega) h
  omega
theorem t_fitted (ok : tw_ok G o ad) (hq : tr_q s L N T) {k hh : Nat} (hk : k < T.length) (hh1 : hh < 2 ^ 31) : wq_C G l 0 0 0 mX3_fitted [.ref o, .int (nI k), .int (nI hh)] (tw_h G o ad s h) (tw_qi G o ad h fun r s' => r = nI (zs_fit (zs_at T k) hh) ∧ s' = s) := by
  have h8 := tr_8 hq
  obtain ⟨h1, h2, -, -⟩ := tr_at hq hk
  have h3 := tr_sec hq hk
  have hok := ok_get hq.2.2.1 hk
  have hL := hq.2.2.2.2.2.1
  refine wq_C.of pn_X3 (Nat.le_of_ble_eq_true rfl) rfl (vX3_fitted_0 ok (tw_ld_n (1 + k) (by rw [nI_lit 1, nI_add]) (by show 1 + k < 346; omega) (tw_ld_n (9 + k) (by rw [nI_lit 9, nI_add]) (by show 9 + k < 346; omega) ?_)))
  rw [h1, h2]
  refine ⟨fun c => tw_ld_n (9 + k) (by rw [nI_lit 9, nI_add]) (by show 9 + k < 346; omega) ?_, fun c => ?_⟩
  · rw [h2]
    generalize hE : zs_at T k = e at *
    obtain ⟨a, b, t, cc⟩ := e
    cases b with
    | none => exact absurd (h3.mpr rfl) c
    | some b =>
      have hb := (hok.2.1 b rfl).1
      have ha := hok.1
      refine ⟨?_, rfl⟩
      simp only [ta_sec, zs_fit]
      rw [nI_bit hh1 (by simp only at ha; omega), nI_bit hh1 (by omega), nI_lit 2, nI_mul, nI_add]
  · generalize hE : zs_at T k = e at *
    obtain ⟨a, b, t, cc⟩ := e
    have hb := h3.mp c
    simp only at hb
    subst hb
    refine ⟨?_, rfl⟩
    simp only [zs_fit]
    rw [nI_bit hh1 (by have := hok.1; simp only at this; omega)]
/-- a set that is left out, as an int -/
def bu (b : Option Nat) : Int32 := match b with
  | none => -1
  | some k => nI k
theorem bu_eq {b : Option Nat} {k : Nat} (hk : k < 100) (hb : ∀ x, b = some x → x < 100) : nI k = bu b ↔ b = some k := by
  cases b with
  | none =>
    simp only [bu, reduceCtorEq, iff_false]
    have : ∀ k, k < 100 → nI k ≠ -1 := by decide
    exact this k hk
  | some x =>
    simp only [bu, Option.some.injEq]
    rw [nI_eq (by omega) (by have := hb x rfl; omega)]
    exact eq_comm
theorem t_fitsAll (ok : tw_ok G o ad) (hq : tr_q s L N T) {hh : Nat} (hh1 : hh < 2 ^ 31) {b : Option Nat} (hb : ∀ x, b = some x → x < 100) : wq_C G l 1 0 0 mX3_fitsAll [.ref o, .int (nI hh), .int (bu b)] (tw_h G o ad s h) (tw_qi G o ad h fun r s' => r = b2i (zs_fits T hh b) ∧ s' = s) := by
  have h8 := tr_8 hq
  have h0 : s.2.1 15 0 = nI T.length := hq.1.1
  have hN := hq.2.2.2.2.2.2
  refine wq_C.of pn_X3 (Nat.le_of_ble_eq_true rfl) rfl (vX3_fitsAll_0 ok ?_)
  have key : ∀ n k, k + n = T.length → tw_T G l o ad h 1 mX3_fitsAll (tw_qi G o ad h fun r s' => r = b2i (zs_fits T hh b) ∧ s' = s) 5 [some (.ref o), some (.int (nI hh)), some (.int (bu b)), some (.int (b2i (allB (fun k => decide (b = some k) || decide (0 < (zs_at T k).2.2.1 (zs_fit (zs_at T k) hh))) k))), some (.int (nI k))] [] s := by
    intro n
    induction n with
    | zero =>
      intro k hk
      obtain rfl : k = T.length := by omega
      refine vX3_fitsAll_5 ok (tw_ld_n 0 rfl (by decide) ?_)
      rw [h0]
      exact ⟨fun _ => ⟨b2i_z _, rfl, rfl⟩, fun c => absurd (Int32.le_refl _) c⟩
    | succ n ih =>
      intro k hk
      have ih := ih (k + 1) (by omega)
      rw [← nI_1] at ih
      refine vX3_fitsAll_5 ok (tw_ld_n 0 rfl (by decide) ?_)
      rw [h0]
      refine ⟨fun c => ?_, fun _ => ⟨fun c => ?_, fun c => ⟨fun c2 => ?_, fun c2 => ?_⟩⟩⟩
      · rw [nI_leI (by omega) (by omega)] at c
        omega
      · rw [b2i_0] at c
        simpa [allB, c, b2i] using ih
      · have c1 : allB (fun k => decide (b = some k) || decide (0 < (zs_at T k).2.2.1 (zs_fit (zs_at T k) hh))) k = true := by
          rw [b2i_0] at c; simpa using c
        have c3 := (bu_eq (by omega) hb).mp c2
        have e : allB (fun k => decide (b = some k) || decide (0 < (zs_at T k).2.2.1 (zs_fit (zs_at T k) hh))) (k + 1) = true := by
          show (allB _ k && _) = true
          rw [c1]
          simp [c3]
        rw [e] at ih
        exact ih
      · have c1 : allB (fun k => decide (b = some k) || decide (0 < (zs_at T k).2.2.1 (zs_fit (zs_at T k) hh))) k = true := by
          rw [b2i_0] at c; simpa using c
        have c3 : ¬ b = some k := fun q => c2 ((bu_eq (by omega) hb).mpr q)
        have hf := zs_fit_lt (zs_at T k) hh
        have hf2 := zs_out_le (zs_at T k)
        refine tw_ci.eq (by decide) (t_fitted ok hq (by omega) hh1) (tw_ld_n (17 + 4 * k + zs_fit (zs_at T k) hh) (by rw [nI_lit 17, nI_lit 4, nI_mul, nI_add, nI_add]) (by show _ < 346; omega) ?_)
        rw [(tr_at hq (by omega)).2.2.1 _ hf]
        have ht := ok_tm hq.2.2.1 (k := k) (by omega) hf
        refine ⟨fun c4 => ?_, fun c4 => ?_⟩
        · have c5 : ¬ 0 < (zs_at T k).2.2.1 (zs_fit (zs_at T k) hh) := fun q => nI_nle q (by omega) c4
          simpa [allB, c1, c3, c5, b2i] using ih
        · have c5 : 0 < (zs_at T k).2.2.1 (zs_fit (zs_at T k) hh) := by
            rcases Nat.eq_zero_or_pos ((zs_at T k).2.2.1 (zs_fit (zs_at T k) hh)) with q | q
            · rw [q] at c4; exact absurd (by decide) c4
            · exact q
          simpa [allB, c1, c3, c5, b2i] using ih
  exact key T.length 0 (by omega)
theorem t_doesExtend (ok : tw_ok G o ad) (hq : tr_q s L N T) {k oo : Nat} (hk : k < T.length) (ho : oo < 4) : wq_C G l 2 0 0 mX3_doesExtend [.ref o, .int (nI k), .int (nI oo)] (tw_h G o ad s h) (tw_qi G o ad h fun r s' => r = b2i (zs_ext L T k oo) ∧ s' = s) := by
  have h8 := tr_8 hq
  have hp := pow_64 hq.2.2.2.2.2.1.2
  refine wq_C.of pn_X3 (Nat.le_of_ble_eq_true rfl) rfl (vX3_doesExtend_0 ok ?_)
  have key : ∀ n j, j + n = 2 ^ L → tw_T G l o ad h 2 mX3_doesExtend (tw_qi G o ad h fun r s' => r = b2i (zs_ext L T k oo) ∧ s' = s) 5 [some (.ref o), some (.int (nI k)), some (.int (nI oo)), some (.int (b2i (anyB (fun hh => decide (zs_fit (zs_at T k) hh = oo) && zs_fits T hh (some k)) j))), some (.int (nI j))] [] s := by
    intro n
    induction n with
    | zero =>
      intro j hj
      obtain rfl : j = 2 ^ L := by omega
      refine vX3_doesExtend_5 ok (tw_ci.eq (by decide) (t_hiddenMany ok hq) ⟨fun _ => ⟨b2i_z _, rfl, rfl⟩, fun c => absurd (Int32.le_refl _) c⟩)
    | succ n ih =>
      intro j hj
      have ih := ih (j + 1) (by omega)
      rw [← nI_1] at ih
      refine vX3_doesExtend_5 ok (tw_ci.eq (by decide) (t_hiddenMany ok hq) ⟨fun c => ?_, fun _ => ⟨fun c => ?_, fun c => ?_⟩⟩)
      · rw [nI_leI (by omega) (by omega)] at c
        omega
      · rw [b2i_0] at c
        simp only [Bool.not_eq_false] at c
        simpa [anyB, c, b2i] using ih
      · rw [b2i_0] at c
        have hf := zs_fit_lt (zs_at T k) j
        have hf2 := zs_out_le (zs_at T k)
        refine tw_ci.eq (by decide) (t_fitted ok hq hk (by omega)) ⟨fun c2 => ?_, fun c2 => ?_⟩
        · rw [nI_eq (by omega) (by omega)] at c2
          simpa [anyB, c, c2, b2i] using ih
        · rw [nI_eq (by omega) (by omega)] at c2
          refine tw_ci.eq (by decide) (t_fitsAll ok hq (b := some k) (hh := j) (by omega) (fun x hx => by cases hx; omega)) ⟨fun c3 => ?_, fun c3 => ?_⟩
          · rw [b2i_0] at c3
            simpa [anyB, c, c2, c3, b2i] using ih
          · rw [b2i_0] at c3
            simp only [Bool.not_eq_false] at c3
            simpa [anyB, c, c2, c3, b2i] using ih
  exact key (2 ^ L) 0 (by omega)
end TW2
