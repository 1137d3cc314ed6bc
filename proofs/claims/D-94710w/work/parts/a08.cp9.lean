/-! CONTRACTS of the component: asked of the table, by the desk -/
set_option maxRecDepth 100000
section CP9
variable {G : wq_G} {l : Launch} {d C S : Nat} {h : wq_H} {Z : Nat → Nat → Prop} {x : Nat} {D : zs_D}
theorem least_lt {K : zs_K} (k : 1 ≤ 2 ^ K.1) : zs_least K.1 K.2.2.2.1 < 2 ^ K.1 := by
  have := zs_least_lt K.1 K.2.2.2.1 (2 ^ K.1 - 1) (Nat.le_refl _)
  unfold zs_least
  omega
theorem c_worst (k : cd G h Z x D) (dk : dok D) : wq_C G l 6 0 0 mX1_worst [.ref x] h (wq_qi (pk G Z x h (dk_t D (kT D)) (qK D (-1) fun K => nI (zs_pays K.2.2.2.1 (zs_least K.1 K.2.2.2.1))))) := by
  cases e : D.2.2.2.2.2 with
  | none =>
    rw [kT_n e, qK_n e]
    exact wq_C.of pn_X1 (Nat.le_of_ble_eq_true rfl) rfl (vX1_worst_0 (k.n e (none_k (u_refused k (by decide) (by decide) fun h' => pk_of))))
  | some K =>
    rw [kT_k e, qK_k e]
    obtain ⟨b, t, li, ba, sa, ta, ca, V⟩ := k.k e
    have q := (dk.2.2 K e).all
    have hp := pow_64 q.2.1
    have hl := least_lt (K := K) Nat.one_le_two_pow
    exact wq_C.of pn_X1 (Nat.le_of_ble_eq_true rfl) rfl (vX1_worst_0 (V.book (some_k (V.tab (V.me (wq_ci.eq (by decide) (c_leastPays k dk e) ⟨_, V.2.2.1, wq_ci.eq (by decide) (c_pays V.2.2 q.1 q.2.1 (by omega)) (u_well k (by decide) fun h' => pk_of)⟩))))))
theorem c_worstAt (k : cd G h Z x D) (dk : dok D) : wq_C G l 6 0 0 mX1_worstAt [.ref x] h (wq_qi (pk G Z x h (dk_t D (kT D)) (qK D (-1) fun K => nI (zs_least K.1 K.2.2.2.1)))) := by
  cases e : D.2.2.2.2.2 with
  | none =>
    rw [kT_n e, qK_n e]
    exact wq_C.of pn_X1 (Nat.le_of_ble_eq_true rfl) rfl (vX1_worstAt_0 (k.n e (none_k (u_refused k (by decide) (by decide) fun h' => pk_of))))
  | some K =>
    rw [kT_k e, qK_k e]
    obtain ⟨b, t, li, ba, sa, ta, ca, V⟩ := k.k e
    exact wq_C.of pn_X1 (Nat.le_of_ble_eq_true rfl) rfl (vX1_worstAt_0 (V.book (some_k (V.me (wq_ci.eq (by decide) (c_leastPays k dk e) (u_well k (by decide) fun h' => pk_of))))))
theorem down_le {K : zs_K} (q : kok K) : zs_down K.1 K.2.1 K.2.2.2.1 ≤ 47520 := by
  have h1 := zs_pays_le q.all.1 (zs_least K.1 K.2.2.2.1)
  have h2 := q.all.2.2.2.1
  unfold zs_down
  calc _ ≤ 792 * 60 := Nat.mul_le_mul h1 h2
    _ ≤ 47520 := by omega
theorem c_bars (k : cd G h Z x D) (dk : dok D) : wq_C G l 6 0 0 mX1_bars [.ref x] h (wq_qi (pk G Z x h (dk_t D (kT D)) (qK D (-1) fun K => b2i (decide (zs_wins K.2.2.2.1 < zs_down K.1 K.2.1 K.2.2.2.1))))) := by
  cases e : D.2.2.2.2.2 with
  | none =>
    rw [kT_n e, qK_n e]
    exact wq_C.of pn_X1 (Nat.le_of_ble_eq_true rfl) rfl (vX1_bars_0 (k.n e (none_k (u_refused k (by decide) (by decide) fun h' => pk_of))))
  | some K =>
    rw [kT_k e, qK_k e]
    obtain ⟨b, t, li, ba, sa, ta, ca, V⟩ := k.k e
    have q := (dk.2.2 K e).all
    have hp := pow_64 q.2.1
    have hl := least_lt (K := K) Nat.one_le_two_pow
    have hw := zs_wins_le q.1 q.2.2.2.1
    have hd := down_le (dk.2.2 K e)
    refine wq_C.of pn_X1 (Nat.le_of_ble_eq_true rfl) rfl (vX1_bars_0 (V.book (some_k (V.tab ⟨_, V.2.2.1, wq_ci.eq (by decide) (c_twins V.2.2) (V.tab (V.me (wq_ci.eq (by decide) (c_leastPays k dk e) ⟨_, V.2.2.1, wq_ci.eq (by decide) (c_pays V.2.2 q.1 q.2.1 (by omega)) (V.book ⟨b, rfl, V.of ?_⟩)⟩)))⟩))))
    rw [nI_mul]
    have e1 : zs_pays K.2.2.2.1 (zs_least K.1 K.2.2.2.1) * K.2.1 = zs_down K.1 K.2.1 K.2.2.2.1 := rfl
    rw [e1]
    refine ⟨fun c => u_well k (by decide) fun h' q1 q2 => ?_, fun c => u_well k (by decide) fun h' q1 q2 => ?_⟩
    · rw [nI_leI (by omega) (by omega)] at c
      rw [← b2i_not (p := zs_wins K.2.2.2.1 < zs_down K.1 K.2.1 K.2.2.2.1) (by omega)]
      exact pk_of q1 q2
    · rw [nI_leI (by omega) (by omega)] at c
      rw [← b2i_of (p := zs_wins K.2.2.2.1 < zs_down K.1 K.2.1 K.2.2.2.1) (by omega)]
      exact pk_of q1 q2
theorem c_fair (k : cd G h Z x D) (dk : dok D) (low : Int32) : wq_C G l 6 0 0 mX1_fair [.ref x, .int low] h (wq_qi (pk G Z x h (dk_t D (kT D)) (qK D (-1) fun K => zs_fair K.1 K.2.1 K.2.2.2.1 low))) := by
  cases e : D.2.2.2.2.2 with
  | none =>
    rw [kT_n e, qK_n e]
    exact wq_C.of pn_X1 (Nat.le_of_ble_eq_true rfl) rfl (vX1_fair_0 (k.n e (none_k (u_refused k (by decide) (by decide) fun h' => pk_of))))
  | some K =>
    rw [kT_k e, qK_k e]
    obtain ⟨b, t, li, ba, sa, ta, ca, V⟩ := k.k e
    have q := (dk.2.2 K e).all
    have hp := pow_64 q.2.1
    have hl := least_lt (K := K) Nat.one_le_two_pow
    have hw := zs_wins_le q.1 q.2.2.2.1
    have hd := down_le (dk.2.2 K e)
    refine wq_C.of pn_X1 (Nat.le_of_ble_eq_true rfl) rfl (vX1_fair_0 (V.book (some_k (V.tab (V.me (wq_ci.eq (by decide) (c_leastPays k dk e) ⟨_, V.2.2.1, wq_ci.eq (by decide) (c_pays V.2.2 q.1 q.2.1 (by omega)) (V.book ⟨b, rfl, V.of ?_⟩)⟩))))))
    rw [nI_mul]
    have e1 : zs_pays K.2.2.2.1 (zs_least K.1 K.2.2.2.1) * K.2.1 = zs_down K.1 K.2.1 K.2.2.2.1 := rfl
    rw [e1]
    refine ⟨fun c => u_well k (by decide) fun h' q1 q2 => ?_, fun c => V.tab ⟨_, V.2.2.1, wq_ci.eq (by decide) (c_twins V.2.2) ⟨fun c2 => V.tab ⟨_, V.2.2.1, wq_ci.eq (by decide) (c_twins V.2.2) ?_⟩, fun c2 => u_well k (by decide) fun h' q1 q2 => ?_⟩⟩⟩
    · rw [nI_lit 0, nI_eq (by omega) (by omega)] at c
      rw [zs_fair, if_pos (Or.inl c)]
      exact pk_of q1 q2
    · rw [nI_lit 0, nI_eq (by omega) (by omega)] at c
      rw [nI_leI (by omega) (by omega)] at c2
      have e2 : ∀ n : Nat, n < 2 ^ 31 → (nI n).toInt64 = jJ n := fun n hn => by rw [nI_iI]; exact jJ_i (by omega) (by omega)
      rw [e2 _ (by omega), e2 _ (by omega)]
      have v : zs_fair K.1 K.2.1 K.2.2.2.1 low = (jJ (((if low = 0 then zs_wins K.2.2.2.1 else zs_down K.1 K.2.1 K.2.2.2.1) / Nat.gcd (zs_wins K.2.2.2.1) (zs_down K.1 K.2.1 K.2.2.2.1) : Nat))).toInt32 := by
        by_cases c3 : zs_wins K.2.2.2.1 = zs_down K.1 K.2.1 K.2.2.2.1
        · rw [zs_fair, if_pos (Or.inr (by omega)), c3, Nat.gcd_self, ite_self, Nat.div_self (by omega)]; rfl
        · rw [zs_fair, if_neg (by omega)]
      rw [v]
      exact wq_ci.eq (by decide) (c_lowest (by omega) (by omega) (by omega) low) (u_well k (by decide) fun h' => pk_of)
    · rw [nI_leI (by omega) (by omega)] at c2
      rw [zs_fair, if_pos (Or.inr (by omega))]
      exact pk_of q1 q2
theorem c_hidden (k : cd G h Z x D) (dk : dok D) : wq_C G l 6 0 0 mX1_hidden [.ref x] h (wq_qi (pk G Z x h (dk_t D (kT D)) (qK D (-1) fun K => nI (cnt (fun hh => zs_fits K.2.2.2.1 hh none) (2 ^ K.1))))) := by
  cases e : D.2.2.2.2.2 with
  | none =>
    rw [kT_n e, qK_n e]
    exact wq_C.of pn_X1 (Nat.le_of_ble_eq_true rfl) rfl (vX1_hidden_0 (k.n e (none_k (u_refused k (by decide) (by decide) fun h' => pk_of))))
  | some K =>
    rw [kT_k e, qK_k e]
    obtain ⟨b, t, li, ba, sa, ta, ca, V⟩ := k.k e
    have q := (dk.2.2 K e).all
    have hp := pow_64 q.2.1
    refine wq_C.of pn_X1 (Nat.le_of_ble_eq_true rfl) rfl (vX1_hidden_0 (V.book (some_k ?_)))
    refine down (P := fun i => wq_T G l 6 mX1_hidden (wq_qi (pk G Z x h (dk_t D 0) (nI (cnt (fun hh => zs_fits K.2.2.2.1 hh none) (2 ^ K.1))))) 17 [some (.ref x), some (.int (nI (cnt (fun hh => zs_fits K.2.2.2.1 hh none) i))), some (.int (nI i))] [] h 0 0) (n := 2 ^ K.1) ?_ ?_
    · exact vX1_hidden_17 (V.book ⟨b, rfl, V.hid q.2.1 (by decide) ⟨fun _ => u_well k (by decide) fun h' => pk_of, fun c => absurd (Int32.le_refl _) c⟩⟩)
    · intro i hi ih
      refine vX1_hidden_17 (V.book ⟨b, rfl, V.hid q.2.1 (by decide) ⟨fun c => ?_, fun _ => V.tab ⟨_, V.2.2.1, wq_ci.eq (by decide) (c_fits V.2.2 q.1 q.2.1 q.2.2.2.1 (hh := i) (b := none) (by omega) (fun _ z => by cases z)) ⟨fun c => ?_, fun c => ?_⟩⟩⟩⟩)
      · rw [nI_leI (by omega) (by omega)] at c
        omega
      · rw [b2i_0] at c
        rw [cnt, c] at ih
        rw [nI_1, nI_lit 0, nI_add]
        exact ih
      · rw [b2i_0, Bool.not_eq_false] at c
        rw [cnt, c] at ih
        rw [nI_1, nI_1]
        exact ih
theorem nth_no {p : Nat → Bool} {i : Int32} (h : ¬ 0 ≤ i) : ∀ n, n < 2 ^ 31 → nth p i n = none := by
  intro n
  induction n with
  | zero => intro _; rfl
  | succ n ih =>
    intro hn
    have hc := cnt_le p n
    unfold nth
    rw [ih (by omega)]
    have : ¬ nI (cnt p n) = i := fun z => h (by rw [← z]; exact nI_pos' (by omega))
    simp [this]
/-- the i-th of a kind, found -/
theorem nth_up2 {p : Nat → Bool} {i : Int32} {n k : Nat} (h : nth p i n = some k) (m : Nat) : nth p i (n + m) = some k := by
  induction m with
  | zero => exact h
  | succ m ih => show (match nth p i (n + m) with | some k => some k | none => _) = some k; rw [ih]
def aN (o : Option Nat) : Int32 := match o with
  | some h => nI h
  | none => -1
def aT (o : Option Nat) : Int32 := match o with
  | some _ => 0
  | none => 1
theorem c_answer (k : cd G h Z x D) (dk : dok D) (i : Int32) : wq_C G l 6 0 0 mX1_answer [.ref x, .int i] h (wq_qi (pk G Z x h (dk_t D (qK D 1 fun K => aT (nth (fun hh => zs_fits K.2.2.2.1 hh none) i (2 ^ K.1)))) (qK D (-1) fun K => aN (nth (fun hh => zs_fits K.2.2.2.1 hh none) i (2 ^ K.1))))) := by
  cases e : D.2.2.2.2.2 with
  | none =>
    rw [qK_n e, qK_n e]
    exact wq_C.of pn_X1 (Nat.le_of_ble_eq_true rfl) rfl (vX1_answer_0 (vX1_answer_4 (k.n e (none_k (u_refused k (by decide) (by decide) fun h' => pk_of)))))
  | some K =>
    rw [qK_k e, qK_k e]
    obtain ⟨b, t, li, ba, sa, ta, ca, V⟩ := k.k e
    have q := (dk.2.2 K e).all
    have hp := pow_64 q.2.1
    generalize hp : (fun hh => zs_fits K.2.2.2.1 hh none) = p
    refine wq_C.of pn_X1 (Nat.le_of_ble_eq_true rfl) rfl (vX1_answer_0 ?_)
    refine down (P := fun j => nth p i j = none → wq_T G l 6 mX1_answer (wq_qi (pk G Z x h (dk_t D (aT (nth p i (2 ^ K.1)))) (aN (nth p i (2 ^ K.1))))) 4 [some (.ref x), some (.int i), some (.int (nI (cnt p j))), some (.int (nI j))] [] h 0 0) (n := 2 ^ K.1) ?_ ?_ rfl
    · intro z
      rw [z]
      exact vX1_answer_4 (V.book (some_k (V.book ⟨b, rfl, V.hid q.2.1 (by decide) ⟨fun _ => u_refused k (by decide) (by decide) fun h' => pk_of, fun c => absurd (Int32.le_refl _) c⟩⟩)))
    · intro j hj ih z
      refine vX1_answer_4 (V.book (some_k (V.book ⟨b, rfl, V.hid q.2.1 (by decide) ⟨fun c => ?_, fun _ => V.tab ⟨_, V.2.2.1, wq_ci.eq (by decide) (c_fits V.2.2 q.1 q.2.1 q.2.2.2.1 (hh := j) (b := none) (by omega) (fun _ z => by cases z)) ⟨fun c => ⟨fun c2 => ?_, fun c2 => ?_⟩, fun c => ?_⟩⟩⟩⟩)))
      · rw [nI_leI (by omega) (by omega)] at c
        omega
      · have c : p j = true := by rw [← hp]; rw [b2i_0, Bool.not_eq_false] at c; exact c
        rw [nI_1, nI_1]
        have e1 : cnt p (j + 1) = cnt p j + 1 := by rw [cnt, c]; rfl
        rw [e1] at ih
        refine ih ?_
        show (match nth p i j with | some k => some k | none => _) = none
        rw [z]
        simp [c, c2]
      · have c : p j = true := by rw [← hp]; rw [b2i_0, Bool.not_eq_false] at c; exact c
        have e1 : nth p i (j + 1) = some j := by
          show (match nth p i j with | some k => some k | none => _) = some j
          rw [z]
          simp [c, c2]
        have e2 := nth_up2 e1 (2 ^ K.1 - (j + 1))
        rw [show j + 1 + (2 ^ K.1 - (j + 1)) = 2 ^ K.1 by omega] at e2
        rw [e2]
        exact u_well k (by decide) fun h' => pk_of
      · have c : p j = false := by rw [← hp]; rw [b2i_0] at c; exact c
        rw [nI_1]
        have e1 : cnt p (j + 1) = cnt p j := by rw [cnt, c]; rfl
        rw [e1] at ih
        refine ih ?_
        show (match nth p i j with | some k => some k | none => _) = none
        rw [z]
        simp [c]
theorem c_xdisturbed (k : cd G h Z x D) (dk : dok D) : wq_C G l 5 0 0 mX1_disturbed [.ref x] h (wq_qi (pk G Z x h (dk_t D (kT D)) (qK D (-1) fun K => zs_dst K.1 K.2.2.2.1))) := by
  cases e : D.2.2.2.2.2 with
  | none =>
    rw [kT_n e, qK_n e]
    exact wq_C.of pn_X1 (Nat.le_of_ble_eq_true rfl) rfl (vX1_disturbed_0 (k.n e (none_k (u_refused k (by decide) (by decide) fun h' => pk_of))))
  | some K =>
    rw [kT_k e, qK_k e]
    obtain ⟨b, t, li, ba, sa, ta, ca, V⟩ := k.k e
    have q := (dk.2.2 K e).all
    exact wq_C.of pn_X1 (Nat.le_of_ble_eq_true rfl) rfl (vX1_disturbed_0 (V.book (some_k (V.tab (V.book ⟨b, rfl, V.looks ⟨_, V.2.2.1, wq_ci.eq (by decide) (c_disturbed V.2.2 q.1 q.2.1 q.2.2.2.1) (u_well k (by decide) fun h' => pk_of)⟩⟩)))))
theorem c_xsame (k : cd G h Z x D) (dk : dok D) (v : Int32) : wq_C G l 5 0 0 mX1_same [.ref x, .int v] h (wq_qi (pk G Z x h (dk_t D (qK D 1 fun K => if (inB v K.2.2.2.1.length && decide ((zs_at K.2.2.2.1 v.toNatClampNeg).2.1 ≠ none)) then 0 else 1)) (qK D (-1000) fun K => if (inB v K.2.2.2.1.length && decide ((zs_at K.2.2.2.1 v.toNatClampNeg).2.1 ≠ none)) then iI (zs_same (zs_at K.2.2.2.1 v.toNatClampNeg)) else -1000))) := by
  obtain ⟨tp, pr, pa, fu, mk, bk, tb, kx⟩ := id k
  refine wq_C.of pn_X1 (Nat.le_of_ble_eq_true rfl) rfl (vX1_same_0 ⟨_, kx.2.2.2.1, wq_ci.eq (by decide) (c_isSet k dk v) ?_⟩)
  cases e : D.2.2.2.2.2 with
  | none =>
    rw [qK_n e, qK_n e]
    exact ⟨fun _ => u_refused k (by decide) (by decide) fun h' => pk_of, fun c => absurd rfl c⟩
  | some K =>
    rw [qK_k e, qK_k e]
    obtain ⟨b, t, li, ba, sa, ta, ca, V⟩ := k.k e
    have q := (dk.2.2 K e).all
    have h8 := q.1.1
    refine ⟨fun c => ?_, fun c => ?_⟩
    · rw [b2i_0] at c
      have c : inB v K.2.2.2.1.length = false := c
      rw [c]
      exact u_refused k (by decide) (by decide) fun h' => pk_of
    · rw [b2i_0, Bool.not_eq_false] at c
      have c : inB v K.2.2.2.1.length = true := c
      obtain ⟨i, hi, rfl⟩ := inB_of c
      rw [c, nI_clamp (by omega)]
      refine V.tab (u_set V.2.2 hi (by decide) ⟨_, rfl, v_outcomes (V.2.2.2.2 i hi) (by decide) ⟨fun c2 => ?_, fun c2 => V.tab (u_set V.2.2 hi (by decide) ⟨_, rfl, v_same (V.2.2.2.2 i hi) (by decide) ?_⟩)⟩⟩)
      · have : (zs_at K.2.2.2.1 i).2.1 = none := by
          cases z : (zs_at K.2.2.2.1 i).2.1 with
          | none => rfl
          | some y => rw [out_2 z] at c2; exact absurd rfl c2
        simp only [this, ne_eq, not_true_eq_false, decide_false, Bool.and_false, if_false]
        exact u_refused k (by decide) (by decide) fun h' => pk_of
      · have : (zs_at K.2.2.2.1 i).2.1 ≠ none := by
          intro z
          rw [out_1 z] at c2
          exact absurd c2 (by decide)
        have e2 : zs_sam (zs_at K.2.2.2.1 i) = zs_same (zs_at K.2.2.2.1 i) := by
          unfold zs_sam
          cases z : (zs_at K.2.2.2.1 i).2.1 with
          | none => exact absurd z this
          | some y => rfl
        rw [e2]
        simp only [this, ne_eq, not_false_eq_true, decide_true, Bool.and_true, if_true]
        exact u_well k (by decide) fun h' => pk_of
theorem c_cycles (k : cd G h Z x D) (dk : dok D) : wq_C G l 6 0 0 mX1_cycles [.ref x] h (wq_qi (pk G Z x h (dk_t D (kT D)) (qK D (-1) fun K => nI (cnt (fun j => zs_cyc K.2.2.2.1 j) (2 ^ K.2.2.2.1.length))))) := by
  cases e : D.2.2.2.2.2 with
  | none =>
    rw [kT_n e, qK_n e]
    exact wq_C.of pn_X1 (Nat.le_of_ble_eq_true rfl) rfl (vX1_cycles_0 (k.n e (none_k (u_refused k (by decide) (by decide) fun h' => pk_of))))
  | some K =>
    rw [kT_k e, qK_k e]
    obtain ⟨b, t, li, ba, sa, ta, ca, V⟩ := k.k e
    have q := (dk.2.2 K e).all
    have h8 := q.1.1
    have hp := pow_9 h8
    refine wq_C.of pn_X1 (Nat.le_of_ble_eq_true rfl) rfl (vX1_cycles_0 (V.book (some_k ?_)))
    refine down (P := fun i => wq_T G l 6 mX1_cycles (wq_qi (pk G Z x h (dk_t D 0) (nI (cnt (fun j => zs_cyc K.2.2.2.1 j) (2 ^ K.2.2.2.1.length))))) 17 [some (.ref x), some (.int (nI (cnt (fun j => zs_cyc K.2.2.2.1 j) i))), some (.int (nI i))] [] h 0 0) (n := 2 ^ K.2.2.2.1.length) ?_ ?_
    · refine vX1_cycles_17 (V.tab (u_size V.2.2 (by decide) ?_))
      rw [nI_shl (by omega)]
      exact ⟨fun _ => u_well k (by decide) fun h' => pk_of, fun c => absurd (Int32.le_refl _) c⟩
    · intro i hi ih
      refine vX1_cycles_17 (V.tab (u_size V.2.2 (by decide) ?_))
      rw [nI_shl (by omega)]
      refine ⟨fun c => ?_, fun _ => V.tab ⟨_, V.2.2.1, wq_ci.eq (by decide) (c_isCycle V.2.2 q.1 q.2.1 (x := i) (by omega)) ⟨fun c => ?_, fun c => ?_⟩⟩⟩
      · rw [nI_leI (by omega) (by omega)] at c
        omega
      · rw [b2i_0] at c
        simp only [hi, decide_true, Bool.true_and] at c
        rw [cnt, c] at ih
        rw [nI_1, nI_lit 0, nI_add]
        exact ih
      · rw [b2i_0, Bool.not_eq_false] at c
        simp only [hi, decide_true, Bool.true_and] at c
        rw [cnt, c] at ih
        rw [nI_1, nI_1]
        exact ih
theorem c_cycle (k : cd G h Z x D) (dk : dok D) (i : Int32) : wq_C G l 6 0 0 mX1_cycle [.ref x, .int i] h (wq_qi (pk G Z x h (dk_t D (qK D 1 fun K => aT (nth (fun j => zs_cyc K.2.2.2.1 j) i (2 ^ K.2.2.2.1.length)))) (qK D (-1) fun K => aN (nth (fun j => zs_cyc K.2.2.2.1 j) i (2 ^ K.2.2.2.1.length))))) := by
  cases e : D.2.2.2.2.2 with
  | none =>
    rw [qK_n e, qK_n e]
    exact wq_C.of pn_X1 (Nat.le_of_ble_eq_true rfl) rfl (vX1_cycle_0 (vX1_cycle_4 (k.n e (none_k (u_refused k (by decide) (by decide) fun h' => pk_of)))))
  | some K =>
    rw [qK_k e, qK_k e]
    obtain ⟨b, t, li, ba, sa, ta, ca, V⟩ := k.k e
    have q := (dk.2.2 K e).all
    have h8 := q.1.1
    have hp := pow_9 h8
    generalize hpp : (fun j => zs_cyc K.2.2.2.1 j) = p
    refine wq_C.of pn_X1 (Nat.le_of_ble_eq_true rfl) rfl (vX1_cycle_0 ?_)
    refine down (P := fun j => nth p i j = none → wq_T G l 6 mX1_cycle (wq_qi (pk G Z x h (dk_t D (aT (nth p i (2 ^ K.2.2.2.1.length)))) (aN (nth p i (2 ^ K.2.2.2.1.length))))) 4 [some (.ref x), some (.int i), some (.int (nI (cnt p j))), some (.int (nI j))] [] h 0 0) (n := 2 ^ K.2.2.2.1.length) ?_ ?_ rfl
    · intro z
      rw [z]
      refine vX1_cycle_4 (V.book (some_k (V.tab (u_size V.2.2 (by decide) ?_))))
      rw [nI_shl (by omega)]
      exact ⟨fun _ => u_refused k (by decide) (by decide) fun h' => pk_of, fun c => absurd (Int32.le_refl _) c⟩
    · intro j hj ih z
      refine vX1_cycle_4 (V.book (some_k (V.tab (u_size V.2.2 (by decide) ?_))))
      rw [nI_shl (by omega)]
      refine ⟨fun c => ?_, fun _ => V.tab ⟨_, V.2.2.1, wq_ci.eq (by decide) (c_isCycle V.2.2 q.1 q.2.1 (x := j) (by omega)) ⟨fun c => ⟨fun c2 => ?_, fun c2 => ?_⟩, fun c => ?_⟩⟩⟩
      · rw [nI_leI (by omega) (by omega)] at c
        omega
      · have c : p j = true := by rw [← hpp]; rw [b2i_0, Bool.not_eq_false] at c; simpa [hj] using c
        rw [nI_1, nI_1]
        have e1 : cnt p (j + 1) = cnt p j + 1 := by rw [cnt, c]; rfl
        rw [e1] at ih
        refine ih ?_
        show (match nth p i j with | some k => some k | none => _) = none
        rw [z]
        simp [c, c2]
      · have c : p j = true := by rw [← hpp]; rw [b2i_0, Bool.not_eq_false] at c; simpa [hj] using c
        have e1 : nth p i (j + 1) = some j := by
          show (match nth p i j with | some k => some k | none => _) = some j
          rw [z]
          simp [c, c2]
        have e2 := nth_up2 e1 (2 ^ K.2.2.2.1.length - (j + 1))
        rw [show j + 1 + (2 ^ K.2.2.2.1.length - (j + 1)) = 2 ^ K.2.2.2.1.length by omega] at e2
        rw [e2]
        exact u_well k (by decide) fun h' => pk_of
      · have c : p j = false := by rw [← hpp]; rw [b2i_0] at c; simpa [hj] using c
        rw [nI_1]
        have e1 : cnt p (j + 1) = cnt p j := by rw [cnt, c]; rfl
        rw [e1] at ih
        refine ih ?_
        show (match nth p i j with | some k => some k | none => _) = none
        rw [z]
        simp [c]
theorem c_xexcess (k : cd G h Z x D) (dk : dok D) (v : Int32) : wq_C G l 6 0 0 mX1_excess [.ref x, .int v] h (wq_qi (pk G Z x h (dk_t D (qK D 1 fun K => if inB v (2 ^ K.2.2.2.1.length) && zs_cyc K.2.2.2.1 v.toNatClampNeg then 0 else 5)) (qK D (-1000) fun K => if inB v (2 ^ K.2.2.2.1.length) && zs_cyc K.2.2.2.1 v.toNatClampNeg then iI (zs_exc K.2.2.2.1 K.2.1 v.toNatClampNeg) else -1000))) := by
  cases e : D.2.2.2.2.2 with
  | none =>
    rw [qK_n e, qK_n e]
    exact wq_C.of pn_X1 (Nat.le_of_ble_eq_true rfl) rfl (vX1_excess_0 (k.n e (none_k ⟨fun _ => k.n e (none_k (u_refused k (by decide) (by decide) fun h' => pk_of)), fun c => absurd rfl c⟩)))
  | some K =>
    rw [qK_k e, qK_k e]
    obtain ⟨b, t, li, ba, sa, ta, ca, V⟩ := k.k e
    have q := (dk.2.2 K e).all
    have h8 := q.1.1
    have hp := pow_9 h8
    refine wq_C.of pn_X1 (Nat.le_of_ble_eq_true rfl) rfl (vX1_excess_0 (V.book (some_k ⟨fun c => ?_, fun c => ?_⟩)))
    · have c1 : inB v (2 ^ K.2.2.2.1.length) = false := by
        unfold inB
        rw [decide_eq_false_iff_not]
        rintro ⟨z, -⟩
        rw [Int32.lt_iff_toInt_lt, Int32.toInt_zero] at c
        omega
      rw [c1]
      exact ⟨fun _ => V.book (some_k (u_refused k (by decide) (by decide) fun h' => pk_of)), fun c => absurd rfl c⟩
    · obtain ⟨i, hi, rfl⟩ := nI_of c
      rw [nI_clamp hi, inB_nI hi]
      refine V.tab ⟨_, V.2.2.1, wq_ci.eq (by decide) (c_isCycle V.2.2 q.1 q.2.1 hi) ⟨fun c2 => ⟨fun _ => ?_, fun c => absurd rfl c⟩, fun c2 => ⟨fun c => absurd c (by decide), fun _ => ?_⟩⟩⟩
      · rw [b2i_0] at c2
        rw [c2]
        exact V.book (some_k (u_refused k (by decide) (by decide) fun h' => pk_of))
      · rw [b2i_0, Bool.not_eq_false] at c2
        rw [c2]
        rw [Bool.and_eq_true, decide_eq_true_eq] at c2
        have two := cyc_two c2.1 h8 c2.2
        exact V.tab (V.book ⟨b, rfl, V.of ⟨_, V.2.2.1, wq_ci.eq (by decide) (c_excess V.2.2 q.1 q.2.1 q.2.2.2.1 c2.1 two.1) (u_well k (by decide) fun h' => pk_of)⟩⟩)
theorem c_times (k : cd G h Z x D) (dk : dok D) (v w : Int32) : wq_C G l 6 0 0 mX1_times [.ref x, .int v, .int w] h (wq_qi (pk G Z x h (dk_t D (qK D 1 fun K => if zs_isO K.2.2.2.1 v w then 0 else 1)) (qK D (-1) fun K => if zs_isO K.2.2.2.1 v w then nI ((zs_at K.2.2.2.1 v.toNatClampNeg).2.2.1 w.toNatClampNeg) else -1))) := by
  obtain ⟨tp, pr, pa, fu, mk, bk, tb, kx⟩ := id k
  refine wq_C.of pn_X1 (Nat.le_of_ble_eq_true rfl) rfl (vX1_times_0 ⟨_, kx.2.2.2.1, wq_ci.eq (by decide) (c_isOut k dk v w) ?_⟩)
  cases e : D.2.2.2.2.2 with
  | none =>
    rw [qK_n e, qK_n e]
    exact ⟨fun _ => u_refused k (by decide) (by decide) fun h' => pk_of, fun c => absurd rfl c⟩
  | some K =>
    rw [qK_k e, qK_k e]
    obtain ⟨b, t, li, ba, sa, ta, ca, V⟩ := k.k e
    have q := (dk.2.2 K e).all
    have h8 := q.1.1
    refine ⟨fun c => ?_, fun c => ?_⟩
    · rw [b2i_0] at c
      have c : zs_isO K.2.2.2.1 v w = false := c
      rw [c]
      exact u_refused k (by decide) (by decide) fun h' => pk_of
    · rw [b2i_0, Bool.not_eq_false] at c
      have c : zs_isO K.2.2.2.1 v w = true := c
      rw [c]
      obtain ⟨c1, c2⟩ := Bool.and_eq_true _ _ ▸ c
      obtain ⟨i, hi, rfl⟩ := inB_of c1
      obtain ⟨o, ho, rfl⟩ := inB_of c2
      rw [nI_clamp (by omega)] at ho
      have h4 := zs_out_le (zs_at K.2.2.2.1 i)
      obtain ⟨f, f1, f2⟩ := as_t (V.2.2.2.2 i hi)
      rw [nI_clamp (by omega), nI_clamp (by omega)]
      refine V.tab (u_set V.2.2 hi (by decide) ⟨_, rfl, as_R0 (V.2.2.2.2 i hi) (ai_n f1 o rfl (by omega) (by omega) ?_)⟩)
      rw [f2 o ho]
      exact u_well k (by decide) fun h' => pk_of
theorem c_coins (k : cd G h Z x D) (dk : dok D) (v w : Int32) : wq_C G l 6 0 0 mX1_coins [.ref x, .int v, .int w] h (wq_qi (pk G Z x h (dk_t D (qK D 1 fun K => if zs_isO K.2.2.2.1 v w then 0 else 1)) (qK D (-1) fun K => if zs_isO K.2.2.2.1 v w then nI ((zs_at K.2.2.2.1 v.toNatClampNeg).2.2.2 w.toNatClampNeg) else -1))) := by
  obtain ⟨tp, pr, pa, fu, mk, bk, tb, kx⟩ := id k
  refine wq_C.of pn_X1 (Nat.le_of_ble_eq_true rfl) rfl (vX1_coins_0 ⟨_, kx.2.2.2.1, wq_ci.eq (by decide) (c_isOut k dk v w) ?_⟩)
  cases e : D.2.2.2.2.2 with
  | none =>
    rw [qK_n e, qK_n e]
    exact ⟨fun _ => u_refused k (by decide) (by decide) fun h' => pk_of, fun c => absurd rfl c⟩
  | some K =>
    rw [qK_k e, qK_k e]
    obtain ⟨b, t, li, ba, sa, ta, ca, V⟩ := k.k e
    have q := (dk.2.2 K e).all
    have h8 := q.1.1
    refine ⟨fun c => ?_, fun c => ?_⟩
    · rw [b2i_0] at c
      have c : zs_isO K.2.2.2.1 v w = false := c
      rw [c]
      exact u_refused k (by decide) (by decide) fun h' => pk_of
    · rw [b2i_0, Bool.not_eq_false] at c
      have c : zs_isO K.2.2.2.1 v w = true := c
      rw [c]
      obtain ⟨c1, c2⟩ := Bool.and_eq_true _ _ ▸ c
      obtain ⟨i, hi, rfl⟩ := inB_of c1
      obtain ⟨o, ho, rfl⟩ := inB_of c2
      rw [nI_clamp (by omega)] at ho
      have h4 := zs_out_le (zs_at K.2.2.2.1 i)
      obtain ⟨f, f1, f2⟩ := as_c (V.2.2.2.2 i hi)
      rw [nI_clamp (by omega), nI_clamp (by omega)]
      refine V.tab (u_set V.2.2 hi (by decide) ⟨_, rfl, as_R1 (V.2.2.2.2 i hi) (ai_n f1 o rfl (by omega) (by omega) ?_)⟩)
      rw [f2 o ho]
      exact u_well k (by decide) fun h' => pk_of
theorem c_look (k : cd G h Z x D) (dk : dok D) (v w : Int32) : wq_C G l 5 0 0 mX1_look [.ref x, .int v, .int w] h (wq_qi (pk G Z x h (dk_t D (qK D 1 fun K => if inB v K.2.2.2.1.length then 0 else 1)) (qK D (-1) fun K => if inB v K.2.2.2.1.length then (if w = 0 then nI (zs_at K.2.2.2.1 v.toNatClampNeg).1 else ta_sec (zs_at K.2.2.2.1 v.toNatClampNeg).2.1) else -1))) := by
  obtain ⟨tp, pr, pa, fu, mk, bk, tb, kx⟩ := id k
  refine wq_C.of pn_X1 (Nat.le_of_ble_eq_true rfl) rfl (vX1_look_0 ⟨_, kx.2.2.2.1, wq_ci.eq (by decide) (c_isSet k dk v) ?_⟩)
  cases e : D.2.2.2.2.2 with
  | none =>
    rw [qK_n e, qK_n e]
    exact ⟨fun _ => u_refused k (by decide) (by decide) fun h' => pk_of, fun c => absurd rfl c⟩
  | some K =>
    rw [qK_k e, qK_k e]
    obtain ⟨b, t, li, ba, sa, ta, ca, V⟩ := k.k e
    have q := (dk.2.2 K e).all
    have h8 := q.1.1
    refine ⟨fun c => ?_, fun c => ?_⟩
    · rw [b2i_0] at c
      have c : inB v K.2.2.2.1.length = false := c
      rw [c]
      exact u_refused k (by decide) (by decide) fun h' => pk_of
    · rw [b2i_0, Bool.not_eq_false] at c
      have c : inB v K.2.2.2.1.length = true := c
      obtain ⟨i, hi, rfl⟩ := inB_of c
      rw [c, nI_clamp (by omega)]
      refine ⟨fun c2 => ?_, fun c2 => ?_⟩
      · rw [if_pos c2]
        exact V.tab (u_set V.2.2 hi (by decide) ⟨_, rfl, v_first (V.2.2.2.2 i hi) (by decide) (u_well k (by decide) fun h' => pk_of)⟩)
      · rw [if_neg c2]
        exact V.tab (u_set V.2.2 hi (by decide) ⟨_, rfl, v_second (V.2.2.2.2 i hi) (by decide) (u_well k (by decide) fun h' => pk_of)⟩)
theorem c_xextend (k : cd G h Z x D) (dk : dok D) (v w : Int32) : wq_C G l 7 0 0 mX1_extend [.ref x, .int v, .int w] h (wq_qi (pk G Z x h (dk_t D (qK D 1 fun K => if zs_isO K.2.2.2.1 v w then 0 else 1)) (qK D (-1) fun K => if zs_isO K.2.2.2.1 v w then b2i (zs_ext K.1 K.2.2.2.1 v.toNatClampNeg w.toNatClampNeg) else -1))) := by
  obtain ⟨tp, pr, pa, fu, mk, bk, tb, kx⟩ := id k
  refine wq_C.of pn_X1 (Nat.le_of_ble_eq_true rfl) rfl (vX1_extend_0 ⟨_, kx.2.2.2.1, wq_ci.eq (by decide) (c_isOut k dk v w) ?_⟩)
  cases e : D.2.2.2.2.2 with
  | none =>
    rw [qK_n e, qK_n e]
    exact ⟨fun _ => u_refused k (by decide) (by decide) fun h' => pk_of, fun c => absurd rfl c⟩
  | some K =>
    rw [qK_k e, qK_k e]
    obtain ⟨b, t, li, ba, sa, ta, ca, V⟩ := k.k e
    have q := (dk.2.2 K e).all
    have h8 := q.1.1
    refine ⟨fun c => ?_, fun c => ?_⟩
    · rw [b2i_0] at c
      have c : zs_isO K.2.2.2.1 v w = false := c
      rw [c]
      exact u_refused k (by decide) (by decide) fun h' => pk_of
    · rw [b2i_0, Bool.not_eq_false] at c
      have c : zs_isO K.2.2.2.1 v w = true := c
      rw [c]
      obtain ⟨c1, c2⟩ := Bool.and_eq_true _ _ ▸ c
      obtain ⟨i, hi, rfl⟩ := inB_of c1
      obtain ⟨o, ho, rfl⟩ := inB_of c2
      rw [nI_clamp (by omega)] at ho
      have h4 := zs_out_le (zs_at K.2.2.2.1 i)
      rw [nI_clamp (by omega), nI_clamp (by omega)]
      refine V.me (wq_ci.eq (by decide) (c_extended k dk e hi (by omega)) ⟨fun c => ?_, fun c => ?_⟩)
      · rw [b2i_0] at c
        rw [c]
        exact u_well k (by decide) fun h' => pk_of
      · rw [b2i_0, Bool.not_eq_false] at c
        rw [c]
        exact u_well k (by decide) fun h' => pk_of
end CP9
