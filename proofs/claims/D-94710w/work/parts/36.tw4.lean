/-! CONTRACTS of the reference: bets, and what is seen -/
set_option maxRecDepth 100000
theorem fo_le {f : Nat → Nat → Nat} {c : Nat} {n : Nat} (h : ∀ k a, k < n → f k a ≤ a + c) (a : Nat) : fo f n a ≤ a + n * c := by
  induction n with
  | zero => simp [fo]
  | succ n ih =>
    have h1 := ih (fun k a hk => h k a (by omega))
    have h2 := h n (fo f n a) (by omega)
    show f n (fo f n a) ≤ _
    rw [Nat.succ_mul]
    omega
theorem zs_pays_le {L N : Nat} {T : zs_T} (h : zs_ok L N T) (hh : Nat) : zs_pays T hh ≤ 792 := by
  have h1 : zs_pays T hh ≤ 0 + T.length * 99 := by
    refine fo_le (fun k a hk => ?_) 0
    have := (ok_get h hk).2.2.2 (zs_fit (zs_at T k) hh) (Nat.lt_of_lt_of_le (zs_fit_lt _ _) (zs_out_le _))
    omega
  have := h.1
  omega
theorem zs_wins_le {L N : Nat} {T : zs_T} (h : zs_ok L N T) (hN : N ≤ 60) : zs_wins T ≤ 190080 := by
  have h1 : zs_wins T ≤ 0 + T.length * 23760 := by
    refine fo_le (fun k a hk => ?_) 0
    have h2 : fo (fun o a => a + (zs_at T k).2.2.2 o * (zs_at T k).2.2.1 o) (zs_out (zs_at T k)) a ≤ a + zs_out (zs_at T k) * 5940 := by
      refine fo_le (fun o a ho => ?_) a
      have e1 := (ok_get h hk).2.2.2 o (Nat.lt_of_lt_of_le ho (zs_out_le _))
      have e2 := ok_tm h hk ho
      have : (zs_at T k).2.2.2 o * (zs_at T k).2.2.1 o ≤ 99 * 60 := Nat.mul_le_mul e1 (by omega)
      omega
    have := zs_out_le (zs_at T k)
    omega
  have := h.1
  omega
theorem zs_least_lt (L : Nat) (T : zs_T) : ∀ n, n ≤ 2 ^ L - 1 → fo (fun k b => if zs_pays T (k + 1) < zs_pays T b then k + 1 else b) n 0 ≤ n := by
  intro n
  induction n with
  | zero => intro _; simp [fo]
  | succ n ih =>
    intro h
    have := ih (by omega)
    show (if _ then n + 1 else _) ≤ n + 1
    split
    · exact Nat.le_refl _
    · omega
section TW4
variable {G : wq_G} {l : Launch} {o : Nat} {ad : Nat → Nat} {h : wq_H} {s : tw_S} {L N : Nat} {T : zs_T}
theorem t_paid (ok : tw_ok G o ad) (hq : tr_q s L N T) {hh : Nat} (hh1 : hh < 2 ^ 31) : wq_C G l 1 0 0 mX3_paid [.ref o, .int (nI hh)] (tw_h G o ad s h) (tw_qi G o ad h fun r s' => r = nI (zs_pays T hh) ∧ s' = s) := by
  have h8 := tr_8 hq
  have h0 : s.2.1 15 0 = nI T.length := hq.1.1
  refine wq_C.of pn_X3 (Nat.le_of_ble_eq_true rfl) rfl (vX3_paid_0 ok ?_)
  have key : ∀ n k, k + n = T.length → tw_T G l o ad h 1 mX3_paid (tw_qi G o ad h fun r s' => r = nI (zs_pays T hh) ∧ s' = s) 4 [some (.ref o), some (.int (nI hh)), some (.int (nI (fo (fun k a => a + (zs_at T k).2.2.2 (zs_fit (zs_at T k) hh)) k 0))), some (.int (nI k))] [] s := by
    intro n
    induction n with
    | zero =>
      intro k hk
      obtain rfl : k = T.length := by omega
      refine vX3_paid_4 ok (tw_ld_n 0 rfl (by decide) ?_)
      rw [h0]
      exact ⟨fun _ => ⟨rfl, rfl⟩, fun c => absurd (Int32.le_refl _) c⟩
    | succ n ih =>
      intro k hk
      have ih := ih (k + 1) (by omega)
      have hf := zs_fit_lt (zs_at T k) hh
      have hf2 := zs_out_le (zs_at T k)
      refine vX3_paid_4 ok (tw_ld_n 0 rfl (by decide) ?_)
      rw [h0]
      refine ⟨fun c => ?_, fun _ => tw_ci.eq (by decide) (t_fitted ok hq (by omega) hh1) (tw_ld_n (4 * k + zs_fit (zs_at T k) hh) (by rw [nI_lit 4, nI_mul, nI_add]) (by show _ < 32; omega) ?_)⟩
      · rw [nI_leI (by omega) (by omega)] at c
        omega
      · rw [(tr_at hq (by omega)).2.2.2 _ hf, nI_add, nI_1]
        exact ih
  exact key T.length 0 (by omega)
theorem t_winsOf (ok : tw_ok G o ad) (hq : tr_q s L N T) : wq_C G l 1 0 0 mX3_winsOf [.ref o] (tw_h G o ad s h) (tw_qi G o ad h fun r s' => r = nI (zs_wins T) ∧ s' = s) := by
  have h8 := tr_8 hq
  have h0 : s.2.1 15 0 = nI T.length := hq.1.1
  refine wq_C.of pn_X3 (Nat.le_of_ble_eq_true rfl) rfl (vX3_winsOf_0 ok ?_)
  generalize hQ : (tw_qi G o ad h fun r s' => r = nI (zs_wins T) ∧ s' = s) = Q
  have key : ∀ n k, k + n = T.length → tw_T G l o ad h 1 mX3_winsOf Q 4 [some (.ref o), some (.int (nI (fo (fun k a => fo (fun o a => a + (zs_at T k).2.2.2 o * (zs_at T k).2.2.1 o) (zs_out (zs_at T k)) a) k 0))), some (.int (nI k)), none] [] s := by
    intro n
    induction n with
    | zero =>
      intro k hk
      obtain rfl : k = T.length := by omega
      subst hQ
      refine vX3_winsOf_4 ok (tw_ld_n 0 rfl (by decide) ?_)
      rw [h0]
      exact ⟨fun _ => ⟨rfl, rfl⟩, fun c => absurd (Int32.le_refl _) c⟩
    | succ n ih =>
      intro k hk
      have ih := ih (k + 1) (by omega)
      have ho4 := zs_out_le (zs_at T k)
      have inner : ∀ m j, j + m = zs_out (zs_at T k) → tw_T G l o ad h 1 mX3_winsOf Q 16 [some (.ref o), some (.int (nI (fo (fun o a => a + (zs_at T k).2.2.2 o * (zs_at T k).2.2.1 o) j (fo (fun k a => fo (fun o a => a + (zs_at T k).2.2.2 o * (zs_at T k).2.2.1 o) (zs_out (zs_at T k)) a) k 0)))), some (.int (nI k)), some (.int (nI j))] [] s := by
        intro m
        induction m with
        | zero =>
          intro j hj
          obtain rfl : j = zs_out (zs_at T k) := by omega
          subst hQ
          refine vX3_winsOf_16 ok (tw_ci.eq (by decide) (t_outcomes ok hq (by omega)) ⟨fun _ => ?_, fun c => absurd (Int32.le_refl _) c⟩)
          rw [nI_1]
          exact ih
        | succ m ihm =>
          intro j hj
          have ihm := ihm (j + 1) (by omega)
          subst hQ
          refine vX3_winsOf_16 ok (tw_ci.eq (by decide) (t_outcomes ok hq (by omega)) ⟨fun c => ?_, fun _ => tw_ld_n (4 * k + j) (by rw [nI_lit 4, nI_mul, nI_add]) (by show _ < 32; omega) (tw_ld_n (17 + 4 * k + j) (by rw [nI_lit 17, nI_lit 4, nI_mul, nI_add, nI_add]) (by show _ < 346; omega) ?_)⟩)
          · rw [nI_leI (by omega) (by omega)] at c
            omega
          · rw [(tr_at hq (by omega)).2.2.2 j (by omega), (tr_at hq (by omega)).2.2.1 j (by omega), nI_mul, nI_add, nI_1]
            exact ihm
      subst hQ
      refine vX3_winsOf_4 ok (tw_ld_n 0 rfl (by decide) ?_)
      rw [h0]
      refine ⟨fun c => ?_, fun _ => inner (zs_out (zs_at T k)) 0 (by omega)⟩
      rw [nI_leI (by omega) (by omega)] at c
      omega
  subst hQ
  exact key T.length 0 (by omega)
theorem t_worstHidden (ok : tw_ok G o ad) (hq : tr_q s L N T) : wq_C G l 2 0 0 mX3_worstHidden [.ref o] (tw_h G o ad s h) (tw_qi G o ad h fun r s' => r = nI (zs_least L T) ∧ s' = s) := by
  have hp := pow_64 hq.2.2.2.2.2.1.2
  have hpos : 0 < 2 ^ L := Nat.two_pow_pos L
  refine wq_C.of pn_X3 (Nat.le_of_ble_eq_true rfl) rfl (vX3_worstHidden_0 ok ?_)
  have key : ∀ n k, k + n = 2 ^ L - 1 → tw_T G l o ad h 2 mX3_worstHidden (tw_qi G o ad h fun r s' => r = nI (zs_least L T) ∧ s' = s) 4 [some (.ref o), some (.int (nI (fo (fun k b => if zs_pays T (k + 1) < zs_pays T b then k + 1 else b) k 0))), some (.int (nI (k + 1)))] [] s := by
    intro n
    induction n with
    | zero =>
      intro k hk
      obtain rfl : k = 2 ^ L - 1 := by omega
      refine vX3_worstHidden_4 ok (tw_ci.eq (by decide) (t_hiddenMany ok hq) ⟨fun _ => ⟨rfl, rfl⟩, fun c => absurd ?_ c⟩)
      rw [show 2 ^ L - 1 + 1 = 2 ^ L by omega]
      exact Int32.le_refl _
    | succ n ih =>
      intro k hk
      have ih := ih (k + 1) (by omega)
      have hb := zs_least_lt L T k (by omega)
      have p1 := zs_pays_le hq.2.2.1 (k + 1)
      refine vX3_worstHidden_4 ok (tw_ci.eq (by decide) (t_hiddenMany ok hq) ⟨fun c => ?_, fun _ => tw_ci.eq (by decide) (t_paid ok hq (by omega)) (tw_ci.eq (by decide) (t_paid ok hq (by omega)) ?_)⟩)
      · rw [nI_leI (by omega) (by omega)] at c
        omega
      · have p2 := zs_pays_le hq.2.2.1 (fo (fun k b => if zs_pays T (k + 1) < zs_pays T b then k + 1 else b) k 0)
        rw [nI_leI (by omega) (by omega), nI_1]
        refine ⟨fun c => ?_, fun c => ?_⟩
        · have e : fo (fun k b => if zs_pays T (k + 1) < zs_pays T b then k + 1 else b) (k + 1) 0 = fo (fun k b => if zs_pays T (k + 1) < zs_pays T b then k + 1 else b) k 0 := if_neg (by omega)
          rw [e] at ih
          exact ih
        · have e : fo (fun k b => if zs_pays T (k + 1) < zs_pays T b then k + 1 else b) (k + 1) 0 = k + 1 := if_pos (by omega)
          rw [e] at ih
          exact ih
  exact key (2 ^ L - 1) 0 (by omega)
/-- a public call that only asks: what it answers, and trouble, with a book and without -/
theorem t_hidden (ok : tw_ok G o ad) (b : Bool) (hb : s.1 14 = b2i b) (hq : b = true → tr_q s L N T) : wq_C G l 3 0 0 mX3_hidden [.ref o] (tw_h G o ad s h) (tw_qi G o ad h (tw_e s (if b then nI (cnt (fun hh => zs_fits T hh none) (2 ^ L)) else -1) (if b then 0 else 1))) := by
  refine wq_C.of pn_X3 (Nat.le_of_ble_eq_true rfl) rfl (vX3_hidden_0 ok (tw_cv.eq (by decide) (t_good ok) ?_))
  rw [tw_g_14, hb, b2i_0]
  refine ⟨fun c => ?_, fun c => ?_⟩
  · subst c
    exact tw_ci.is (by decide) (t_no ok 1) tw_e_no
  · simp only [Bool.not_eq_false] at c
    subst c
    refine tw_ci.eq (by decide) (t_fittingAnswer (s := tw_g s) (L := L) (N := N) (T := T) ok (hq rfl) (-1)) ?_
    have hp := pow_64 (hq rfl).2.2.2.2.2.1.2
    have hn : ∀ n, n ≤ 64 → nth (fun hh => zs_fits T hh none) (-1) n = none := by
      intro n
      induction n with
      | zero => intro _; rfl
      | succ n ih =>
        intro h
        have hc := cnt_le (fun hh => zs_fits T hh none) n
        have : ¬ nI (cnt (fun hh => zs_fits T hh none) n) = -1 := by
          have : ∀ k, k < 64 → ¬ nI k = -1 := by decide
          exact this _ (by omega)
        simp [nth, ih (by omega), this]
    rw [hn _ hp]
    refine ⟨?_, tw_g_fr s, rfl⟩
    simp only [if_true]
    generalize nI (cnt (fun hh => zs_fits T hh none) (2 ^ L)) = z
    rw [Int32.sub_add_cancel]
theorem t_answer (ok : tw_ok G o ad) (i : Int32) (b : Bool) (hb : s.1 14 = b2i b) (hq : b = true → tr_q s L N T) : wq_C G l 3 0 0 mX3_answer [.ref o, .int i] (tw_h G o ad s h) (tw_qi G o ad h fun r s' => match (if b ∧ 0 ≤ i then nth (fun hh => zs_fits T hh none) i (2 ^ L) else none) with
    | some k => tw_e s (nI k) 0 r s'
    | none => tw_e s (-1) 1 r s') := by
  refine wq_C.of pn_X3 (Nat.le_of_ble_eq_true rfl) rfl (vX3_answer_0 ok (tw_cv.eq (by decide) (t_good ok) ?_))
  rw [tw_g_14, hb, b2i_0]
  refine ⟨fun c => ?_, fun c => ⟨fun c2 => ?_, fun c2 => ?_⟩⟩
  · subst c
    simp only [Bool.false_eq_true, false_and, if_false]
    exact tw_ci.is (by decide) (t_no ok 1) tw_e_no
  · simp only [Bool.not_eq_false] at c
    subst c
    simp only [true_and, if_pos c2]
    have hp := pow_64 (hq rfl).2.2.2.2.2.1.2
    refine tw_ci.eq (by decide) (t_fittingAnswer (s := tw_g s) (L := L) (N := N) (T := T) ok (hq rfl) i) ?_
    cases hn : nth (fun hh => zs_fits T hh none) i (2 ^ L) with
    | some k =>
      have hk := nth_lt hn
      refine ⟨fun _ => tw_e_g, fun c3 => absurd (nI_pos' (by omega)) c3⟩
    | none =>
      have hc := cnt_le (fun hh => zs_fits T hh none) (2 ^ L)
      refine ⟨fun c3 => ?_, fun _ => tw_ci.is (by decide) (t_no ok 1) tw_e_no⟩
      exfalso
      revert c3
      have : ∀ k, k < 65 → ¬ (0 : Int32) ≤ nI k - 1000 := by decide
      exact this _ (by omega)
  · simp only [Bool.not_eq_false] at c
    subst c
    simp only [true_and, if_neg c2]
    exact tw_ci.is (by decide) (t_no ok 1) tw_e_no
theorem t_extend (ok : tw_ok G o ad) (x y : Int32) (b : Bool) (hb : s.1 14 = b2i b) (hq : b = true → tr_q s L N T) : wq_C G l 3 0 0 mX3_extend [.ref o, .int x, .int y] (tw_h G o ad s h) (tw_qi G o ad h (tw_e s (if b && zs_isO T x y then b2i (zs_ext L T x.toNatClampNeg y.toNatClampNeg) else -1) (if b && zs_isO T x y then 0 else 1))) := by
  refine wq_C.of pn_X3 (Nat.le_of_ble_eq_true rfl) rfl (vX3_extend_0 ok (tw_cv.eq (by decide) (t_good ok) (tw_ci.eq (by decide) (t_isOutcome (s := tw_g s) (L := L) (N := N) (T := T) ok x y b ((tw_g_14 s).trans hb) hq) ?_)))
  rw [b2i_0]
  refine ⟨fun c => ?_, fun c => ?_⟩
  · rw [c]
    exact tw_ci.is (by decide) (t_no ok 1) tw_e_no
  · simp only [Bool.not_eq_false] at c
    rw [c]
    simp only [zs_isO, Bool.and_eq_true] at c
    obtain ⟨rfl, c1, c2⟩ := c
    have h8 := tr_8 (hq rfl)
    obtain ⟨k, hk, rfl⟩ := inB_of c1
    rw [nI_clamp (by omega)] at c2 ⊢
    have ho := zs_out_le (zs_at T k)
    obtain ⟨j, hj, rfl⟩ := inB_of c2
    rw [nI_clamp (by omega)]
    refine tw_ci.eq (by decide) (t_doesExtend (s := tw_g s) (L := L) (N := N) (T := T) ok (hq rfl) hk (by omega)) ?_
    rw [b2i_0]
    refine ⟨fun c => ?_, fun c => ?_⟩
    · rw [c]; exact tw_e_g
    · simp only [Bool.not_eq_false] at c; rw [c]; exact tw_e_g
end TW4
