/-! CONTRACTS of the reference: bets (public), looks that are disturbed, what is seen -/
set_option maxRecDepth 100000
def zs_down (L N : Nat) (T : zs_T) : Nat := zs_pays T (zs_least L T) * N
def zs_fair (L N : Nat) (T : zs_T) (low : Int32) : Int32 := if zs_down L N T = 0 ∨ zs_down L N T ≤ zs_wins T then 1 else (jJ (((if low = 0 then zs_wins T else zs_down L N T) / Nat.gcd (zs_wins T) (zs_down L N T) : Nat))).toInt32
theorem zs_least_le (L : Nat) (T : zs_T) : zs_least L T < 2 ^ L := by
  have := zs_least_lt L T (2 ^ L - 1) (Nat.le_refl _)
  have hpos : 0 < 2 ^ L := Nat.two_pow_pos L
  unfold zs_least
  omega
/-- how often a look was 1 in a set -/
def zs_ones (e : zs_E) (l : Nat) : Option Nat := if e.1 = l then (match e.2.1 with
  | none => some (e.2.2.1 1)
  | some _ => some (e.2.2.1 2 + e.2.2.1 3)) else if e.2.1 = some l then some (e.2.2.1 1 + e.2.2.1 3) else none
/-- as far as the k-th set: none if two sets tell it not as often, else how often it was told last -/
def zs_dis (T : zs_T) (l : Nat) : Nat → Option (Option Nat)
  | 0 => some none
  | k + 1 => match zs_dis T l k with
    | none => none
    | some w => match zs_ones (zs_at T k) l with
      | none => some w
      | some n => if w = none ∨ w = some n then some (some n) else none
def zs_same (e : zs_E) : Int := (e.2.2.1 0 : Int) + e.2.2.1 3 - e.2.2.1 1 - e.2.2.1 2
/-- the first below n of a kind -/
def fst (p : Nat → Bool) : Nat → Option Nat
  | 0 => none
  | n + 1 => match fst p n with
    | some k => some k
    | none => if p n then some n else none
theorem fst_up {p : Nat → Bool} {n k : Nat} (h : fst p n = some k) (m : Nat) : fst p (n + m) = some k := by
  induction m with
  | zero => exact h
  | succ m ih => show (match fst p (n + m) with | some k => some k | none => _) = some k; rw [ih]
section TW5
variable {G : wq_G} {l : Launch} {o : Nat} {ad : Nat → Nat} {h : wq_H} {s : tw_S} {L N : Nat} {T : zs_T}
theorem t_wins (ok : tw_ok G o ad) (b : Bool) (hb : s.1 14 = b2i b) (hq : b = true → tr_q s L N T) : wq_C G l 2 0 0 mX3_wins [.ref o] (tw_h G o ad s h) (tw_qi G o ad h (tw_e s (if b then nI (zs_wins T) else -1) (if b then 0 else 1))) := by
  refine wq_C.of pn_X3 (Nat.le_of_ble_eq_true rfl) rfl (vX3_wins_0 ok (tw_cv.eq (by decide) (t_good ok) ?_))
  rw [tw_g_14, hb, b2i_0]
  refine ⟨fun c => ?_, fun c => ?_⟩
  · subst c
    exact tw_ci.is (by decide) (t_no ok 1) tw_e_no
  · simp only [Bool.not_eq_false] at c
    subst c
    exact tw_ci.eq (by decide) (t_winsOf (s := tw_g s) (L := L) (N := N) (T := T) ok (hq rfl)) tw_e_g
theorem t_worst (ok : tw_ok G o ad) (b : Bool) (hb : s.1 14 = b2i b) (hq : b = true → tr_q s L N T) : wq_C G l 3 0 0 mX3_worst [.ref o] (tw_h G o ad s h) (tw_qi G o ad h (tw_e s (if b then nI (zs_pays T (zs_least L T)) else -1) (if b then 0 else 1))) := by
  refine wq_C.of pn_X3 (Nat.le_of_ble_eq_true rfl) rfl (vX3_worst_0 ok (tw_cv.eq (by decide) (t_good ok) ?_))
  rw [tw_g_14, hb, b2i_0]
  refine ⟨fun c => ?_, fun c => ?_⟩
  · subst c
    exact tw_ci.is (by decide) (t_no ok 1) tw_e_no
  · simp only [Bool.not_eq_false] at c
    subst c
    have hp := pow_64 (hq rfl).2.2.2.2.2.1.2
    have hl := zs_least_le L T
    exact tw_ci.eq (by decide) (t_worstHidden (s := tw_g s) (L := L) (N := N) (T := T) ok (hq rfl)) (tw_ci.eq (by decide) (t_paid (s := tw_g s) (L := L) (N := N) (T := T) ok (hq rfl) (by omega)) tw_e_g)
theorem t_worstAt (ok : tw_ok G o ad) (b : Bool) (hb : s.1 14 = b2i b) (hq : b = true → tr_q s L N T) : wq_C G l 3 0 0 mX3_worstAt [.ref o] (tw_h G o ad s h) (tw_qi G o ad h (tw_e s (if b then nI (zs_least L T) else -1) (if b then 0 else 1))) := by
  refine wq_C.of pn_X3 (Nat.le_of_ble_eq_true rfl) rfl (vX3_worstAt_0 ok (tw_cv.eq (by decide) (t_good ok) ?_))
  rw [tw_g_14, hb, b2i_0]
  refine ⟨fun c => ?_, fun c => ?_⟩
  · subst c
    exact tw_ci.is (by decide) (t_no ok 1) tw_e_no
  · simp only [Bool.not_eq_false] at c
    subst c
    exact tw_ci.eq (by decide) (t_worstHidden (s := tw_g s) (L := L) (N := N) (T := T) ok (hq rfl)) tw_e_g
theorem zs_down_le (hq : tr_q s L N T) : zs_down L N T ≤ 47520 := by
  have h1 := zs_pays_le hq.2.2.1 (zs_least L T)
  have h2 := hq.2.2.2.2.2.2.2
  have := Nat.mul_le_mul h1 h2
  unfold zs_down
  omega
theorem t_bars (ok : tw_ok G o ad) (b : Bool) (hb : s.1 14 = b2i b) (hq : b = true → tr_q s L N T) : wq_C G l 3 0 0 mX3_bars [.ref o] (tw_h G o ad s h) (tw_qi G o ad h (tw_e s (if b then b2i (decide (zs_wins T < zs_down L N T)) else -1) (if b then 0 else 1))) := by
  refine wq_C.of pn_X3 (Nat.le_of_ble_eq_true rfl) rfl (vX3_bars_0 ok (tw_cv.eq (by decide) (t_good ok) ?_))
  rw [tw_g_14, hb, b2i_0]
  refine ⟨fun c => ?_, fun c => ?_⟩
  · subst c
    exact tw_ci.is (by decide) (t_no ok 1) tw_e_no
  · simp only [Bool.not_eq_false] at c
    subst c
    have hq' : tr_q (tw_g s) L N T := hq rfl
    have hp := pow_64 hq'.2.2.2.2.2.1.2
    have hl := zs_least_le L T
    have hw := zs_wins_le hq'.2.2.1 hq'.2.2.2.2.2.2.2
    have hd := zs_down_le hq'
    refine tw_ci.eq (by decide) (t_winsOf ok hq') (tw_ci.eq (by decide) (t_worstHidden ok hq') (tw_ci.eq (by decide) (t_paid ok hq' (by omega)) (tw_ld_n 49 rfl (by decide) ?_)))
    rw [hq'.2.2.2.2.1, nI_mul]
    show (nI (zs_down L N T) ≤ _ → _) ∧ (¬ nI (zs_down L N T) ≤ _ → _)
    rw [nI_leI (by omega) (by omega)]
    refine ⟨fun c => ⟨b2i_not (by omega), tw_g_fr s, rfl⟩, fun c => ⟨b2i_of (by omega), tw_g_fr s, rfl⟩⟩
theorem t_fair (ok : tw_ok G o ad) (low : Int32) (b : Bool) (hb : s.1 14 = b2i b) (hq : b = true → tr_q s L N T) : wq_C G l 3 0 0 mX3_fair [.ref o, .int low] (tw_h G o ad s h) (tw_qi G o ad h (tw_e s (if b then zs_fair L N T low else -1) (if b then 0 else 1))) := by
  refine wq_C.of pn_X3 (Nat.le_of_ble_eq_true rfl) rfl (vX3_fair_0 ok (tw_cv.eq (by decide) (t_good ok) ?_))
  rw [tw_g_14, hb, b2i_0]
  refine ⟨fun c => ?_, fun c => ?_⟩
  · simp only [Bool.not_eq_false] at c
    subst c
    have hq' : tr_q (tw_g s) L N T := hq rfl
    have hp := pow_64 hq'.2.2.2.2.2.1.2
    have hl := zs_least_le L T
    have hw := zs_wins_le hq'.2.2.1 hq'.2.2.2.2.2.2.2
    have hd := zs_down_le hq'
    refine tw_ci.eq (by decide) (t_worstHidden ok hq') (tw_ci.eq (by decide) (t_paid ok hq' (by omega)) (tw_ld_n 49 rfl (by decide) ?_))
    rw [hq'.2.2.2.2.1, nI_mul]
    change (nI (zs_down L N T) = 0 → _) ∧ (¬ nI (zs_down L N T) = 0 → _)
    rw [nI_lit 0, nI_eq (by omega) (by omega)]
    refine ⟨fun c => ⟨?_, tw_g_fr s, rfl⟩, fun c => tw_ci.eq (by decide) (t_winsOf ok hq') ?_⟩
    · simp [zs_fair, c]
    · change (_ < nI (zs_down L N T) → _) ∧ (¬ _ < nI (zs_down L N T) → _)
      rw [nI_ltI (by omega) (by omega)]
      refine ⟨fun c2 => tw_ci.eq (by decide) (t_winsOf ok hq') ?_, fun c2 => ⟨?_, tw_g_fr s, rfl⟩⟩
      · change tw_ci G l o ad h 3 mX3_lowest [.long (nI (zs_wins T)).toInt64, .long (nI (zs_down L N T)).toInt64, .int low] _ _
        rw [nI_iI, nI_iI, jJ_i (by omega) (by omega), jJ_i (by omega) (by omega)]
        refine tw_ci.eq (by decide) (t_lowest ok (by omega) (by omega) (by omega) low) ⟨?_, tw_g_fr s, rfl⟩
        have e : ¬ (zs_down L N T = 0 ∨ zs_down L N T ≤ zs_wins T) := by omega
        simp only [zs_fair, if_neg e, if_true]
      · have e : zs_down L N T = 0 ∨ zs_down L N T ≤ zs_wins T := by omega
        simp only [zs_fair, if_pos e, if_true]
  · subst c
    exact tw_ci.is (by decide) (t_no ok 1) tw_e_no
theorem t_times (ok : tw_ok G o ad) (x y : Int32) (b : Bool) (hb : s.1 14 = b2i b) (hq : b = true → tr_q s L N T) : wq_C G l 3 0 0 mX3_times [.ref o, .int x, .int y] (tw_h G o ad s h) (tw_qi G o ad h (tw_e s (if b && zs_isO T x y then nI ((zs_at T x.toNatClampNeg).2.2.1 y.toNatClampNeg) else -1) (if b && zs_isO T x y then 0 else 1))) := by
  refine wq_C.of pn_X3 (Nat.le_of_ble_eq_true rfl) rfl (vX3_times_0 ok (tw_cv.eq (by decide) (t_good ok) (tw_ci.eq (by decide) (t_isOutcome (s := tw_g s) (L := L) (N := N) (T := T) ok x y b ((tw_g_14 s).trans hb) hq) ?_)))
  rw [b2i_0]
  refine ⟨fun c => ?_, fun c => ?_⟩
  · rw [c]
    exact tw_ci.is (by decide) (t_no ok 1) tw_e_no
  · simp only [Bool.not_eq_false] at c
    rw [c]
    simp only [zs_isO, Bool.and_eq_true] at c
    obtain ⟨rfl, c1, c2⟩ := c
    have hq' : tr_q (tw_g s) L N T := hq rfl
    have h8 := tr_8 hq'
    obtain ⟨k, hk, rfl⟩ := inB_of c1
    rw [nI_clamp (by omega)] at c2 ⊢
    have ho := zs_out_le (zs_at T k)
    obtain ⟨j, hj, rfl⟩ := inB_of c2
    rw [nI_clamp (by omega)]
    refine tw_ld_n (17 + 4 * k + j) (by rw [nI_lit 17, nI_lit 4, nI_mul, nI_add, nI_add]) (by show _ < 346; omega) ?_
    rw [(tr_at hq' hk).2.2.1 j hj]
    exact tw_e_g
theorem t_coins (ok : tw_ok G o ad) (x y : Int32) (b : Bool) (hb : s.1 14 = b2i b) (hq : b = true → tr_q s L N T) : wq_C G l 3 0 0 mX3_coins [.ref o, .int x, .int y] (tw_h G o ad s h) (tw_qi G o ad h (tw_e s (if b && zs_isO T x y then nI ((zs_at T x.toNatClampNeg).2.2.2 y.toNatClampNeg) else -1) (if b && zs_isO T x y then 0 else 1))) := by
  refine wq_C.of pn_X3 (Nat.le_of_ble_eq_true rfl) rfl (vX3_coins_0 ok (tw_cv.eq (by decide) (t_good ok) (tw_ci.eq (by decide) (t_isOutcome (s := tw_g s) (L := L) (N := N) (T := T) ok x y b ((tw_g_14 s).trans hb) hq) ?_)))
  rw [b2i_0]
  refine ⟨fun c => ?_, fun c => ?_⟩
  · rw [c]
    exact tw_ci.is (by decide) (t_no ok 1) tw_e_no
  · simp only [Bool.not_eq_false] at c
    rw [c]
    simp only [zs_isO, Bool.and_eq_true] at c
    obtain ⟨rfl, c1, c2⟩ := c
    have hq' : tr_q (tw_g s) L N T := hq rfl
    have h8 := tr_8 hq'
    obtain ⟨k, hk, rfl⟩ := inB_of c1
    rw [nI_clamp (by omega)] at c2 ⊢
    have ho := zs_out_le (zs_at T k)
    obtain ⟨j, hj, rfl⟩ := inB_of c2
    rw [nI_clamp (by omega)]
    refine tw_ld_n (4 * k + j) (by rw [nI_lit 4, nI_mul, nI_add]) (by show _ < 32; omega) ?_
    rw [(tr_at hq' hk).2.2.2 j hj]
    exact tw_e_g
theorem t_look (ok : tw_ok G o ad) (x y : Int32) (b : Bool) (hb : s.1 14 = b2i b) (hq : b = true → tr_q s L N T) : wq_C G l 2 0 0 mX3_look [.ref o, .int x, .int y] (tw_h G o ad s h) (tw_qi G o ad h (tw_e s (if b && inB x T.length then (if y = 0 then nI (zs_at T x.toNatClampNeg).1 else ta_sec (zs_at T x.toNatClampNeg).2.1) else -1) (if b && inB x T.length then 0 else 1))) := by
  refine wq_C.of pn_X3 (Nat.le_of_ble_eq_true rfl) rfl (vX3_look_0 ok (tw_cv.eq (by decide) (t_good ok) (tw_ci.eq (by decide) (t_isSet (s := tw_g s) (L := L) (N := N) (T := T) ok x b ((tw_g_14 s).trans hb) hq) ?_)))
  rw [b2i_0]
  refine ⟨fun c => ?_, fun c => ?_⟩
  · rw [c]
    exact tw_ci.is (by decide) (t_no ok 1) tw_e_no
  · simp only [Bool.not_eq_false] at c
    rw [c]
    simp only [Bool.and_eq_true] at c
    obtain ⟨rfl, c1⟩ := c
    have hq' : tr_q (tw_g s) L N T := hq rfl
    have h8 := tr_8 hq'
    obtain ⟨k, hk, rfl⟩ := inB_of c1
    rw [nI_clamp (by omega)]
    refine ⟨fun c => ?_, fun c => ?_⟩
    · refine tw_ld_n (1 + k) (by rw [nI_lit 1, nI_add]) (by show _ < 346; omega) ?_
      rw [(tr_at hq' hk).1]
      refine ⟨?_, tw_g_fr s, rfl⟩
      simp [c]
    · refine tw_ld_n (9 + k) (by rw [nI_lit 9, nI_add]) (by show _ < 346; omega) ?_
      rw [(tr_at hq' hk).2.1]
      refine ⟨?_, tw_g_fr s, rfl⟩
      simp [c]
theorem t_sameOf (ok : tw_ok G o ad) (hq : tr_q s L N T) {k : Nat} (hk : k < T.length) (h2 : (zs_at T k).2.1 ≠ none) : wq_C G l 0 0 0 mX3_sameOf [.ref o, .int (nI k)] (tw_h G o ad s h) (tw_qi G o ad h fun r s' => r = iI (zs_same (zs_at T k)) ∧ s' = s) := by
  have h8 := tr_8 hq
  have ho : zs_out (zs_at T k) = 4 := by
    unfold zs_out
    split
    · rename_i e; exact absurd e h2
    · rfl
  have ht := (tr_at hq hk).2.2.1
  refine wq_C.of pn_X3 (Nat.le_of_ble_eq_true rfl) rfl (vX3_sameOf_0 ok (tw_ld_n (17 + 4 * k + 0) (by rw [nI_lit 17, nI_lit 4, nI_mul, nI_add]; rfl) (by show _ < 346; omega) (tw_ld_n (17 + 4 * k + 3) (by rw [nI_lit 17, nI_lit 4, nI_lit 3, nI_mul, nI_add, nI_add]) (by show _ < 346; omega) (tw_ld_n (17 + 4 * k + 1) (by rw [nI_lit 17, nI_lit 4, nI_lit 1, nI_mul, nI_add, nI_add]) (by show _ < 346; omega) (tw_ld_n (17 + 4 * k + 2) (by rw [nI_lit 17, nI_lit 4, nI_lit 2, nI_mul, nI_add, nI_add]) (by show _ < 346; omega) ?_)))))
  rw [ht 0 (by omega), ht 1 (by omega), ht 2 (by omega), ht 3 (by omega), nI_iI, nI_iI, nI_iI, nI_iI, iI_add, iI_sub, iI_sub]
  exact ⟨rfl, rfl⟩
theorem t_same (ok : tw_ok G o ad) (x : Int32) (b : Bool) (hb : s.1 14 = b2i b) (hq : b = true → tr_q s L N T) : wq_C G l 2 0 0 mX3_same [.ref o, .int x] (tw_h G o ad s h) (tw_qi G o ad h (tw_e s (if b && (inB x T.length && decide ((zs_at T x.toNatClampNeg).2.1 ≠ none)) then iI (zs_same (zs_at T x.toNatClampNeg)) else -1000) (if b && (inB x T.length && decide ((zs_at T x.toNatClampNeg).2.1 ≠ none)) then 0 else 1))) := by
  have fin : tw_e s (-1000) 1 (-1000) (tw_pi (tw_g s) 11 1) := ⟨rfl, (tw_g_fr s).trans (tw_fr_pi (by decide)), tw_pi_same⟩
  refine wq_C.of pn_X3 (Nat.le_of_ble_eq_true rfl) rfl (vX3_same_0 ok (tw_cv.eq (by decide) (t_good ok) (tw_ci.eq (by decide) (t_isSet (s := tw_g s) (L := L) (N := N) (T := T) ok x b ((tw_g_14 s).trans hb) hq) ?_)))
  rw [b2i_0]
  refine ⟨fun c => ?_, fun c => ?_⟩
  · rw [← Bool.and_assoc, c]
    exact tw_ci.is (by decide) (t_less ok 1 (-1000)) fin
  · simp only [Bool.not_eq_false] at c
    rw [← Bool.and_assoc, c]
    simp only [Bool.and_eq_true] at c
    obtain ⟨rfl, c1⟩ := c
    have hq' : tr_q (tw_g s) L N T := hq rfl
    have h8 := tr_8 hq'
    obtain ⟨k, hk, rfl⟩ := inB_of c1
    rw [nI_clamp (by omega)]
    refine tw_ld_n (9 + k) (by rw [nI_lit 9, nI_add]) (by show _ < 346; omega) ?_
    rw [(tr_at hq' hk).2.1, tr_sec hq' hk]
    refine ⟨fun c => ?_, fun c => ?_⟩
    · simp only [c, ne_eq, not_true, decide_false, Bool.and_false]
      exact tw_ci.is (by decide) (t_less ok 1 (-1000)) fin
    · simp only [ne_eq, c, not_false_eq_true, decide_true, Bool.and_true, if_true]
      exact tw_ci.eq (by decide) (t_sameOf ok hq' hk c) tw_e_g
end TW5
