/-! CONTRACTS of the component: lines, second; rays asked; widest -/
set_option maxRecDepth 100000
section CP11
variable {G : wq_G} {l : Launch} {d C S : Nat} {h : wq_H} {Z : Nat → Nat → Prop} {P : Nat → Prop} {x : Nat} {D : zs_D} {L N : Nat} {B : zs_B}
theorem bc_31 {a n : Nat} (ha : a < 2 ^ n) (hn : n ≤ 20) : bc a 31 = bc a 20 := by
  rw [bc_small ha (show n ≤ 31 by omega), bc_small ha hn]
theorem c_core (k : cd G h Z x D) (dk : dok D) : wq_C G l 5 0 0 mX1_core [.ref x] h (wq_qi (pk G Z x h (dk_t D (kT D)) (qK D (-1) fun K => on2 (zs_core K.2.2.1)))) := by
  cases e : D.2.2.2.2.2 with
  | none =>
    rw [kT_n e, qK_n e]
    exact wq_C.of pn_X1 (Nat.le_of_ble_eq_true rfl) rfl (vX1_core_0 (k.n e (none_k (u_refused k (by decide) (by decide) fun h' => pk_of))))
  | some K =>
    rw [kT_k e, qK_k e]
    obtain ⟨fs, b, hx, h5, hb⟩ := k.kb e
    have hB := (dk.2.2 K e).2.1
    have h8 := hB.2.1
    have l8 := pow_9 hB.2.1
    have bq : ∀ {F : Option Nat → Prop}, F (some b) → wq_gQ h x [(0, 5)] F := fun q => gQ1 hx (x := some b) h5 q
    obtain ⟨-, t0, l0, r0, u0, hb5, -⟩ := id hb
    refine wq_C.of pn_X1 (Nat.le_of_ble_eq_true rfl) rfl (vX1_core_0 (bq (some_k ?_)))
    generalize hf : (fun (set : Nat) (b : Option Nat) => match b with
      | none => if zs_can K.2.2.1 set then none else some set
      | some c => if bc set 20 < bc c 20 ∧ zs_can K.2.2.1 set = false then some set else some c) = f
    have hcore : zs_core K.2.2.1 = fo f (2 ^ K.2.2.1.2.1.length) none := by rw [← hf]; rfl
    have hlt : ∀ n c, fo f n none = some c → c < n := by rw [← hf]; exact core_lt K.2.2.1
    refine down (P := fun i => wq_T G l 5 mX1_core (wq_qi (pk G Z x h (dk_t D 0) (on2 (zs_core K.2.2.1)))) 18 [some (.ref x), some (.int (on2 (fo f i none))), some (.int (nI i))] [] h 0 0) (n := 2 ^ K.2.2.1.2.1.length) ?_ ?_
    · refine vX1_core_18 ⟨_, hx, wq_ci.eq (by decide) (c_allLines hx h5 hb hB) ⟨fun _ => ?_, fun c => ?_⟩⟩
      · rw [hcore]
        exact u_well k (by decide) fun h' => pk_of
      · rw [nI_ltI (by omega) (by omega)] at c
        have := Nat.one_le_two_pow (n := K.2.2.1.2.1.length)
        omega
    · intro i hi ih
      have hst : fo f (i + 1) none = f i (fo f i none) := rfl
      refine vX1_core_18 ⟨_, hx, wq_ci.eq (by decide) (c_allLines hx h5 hb hB) ⟨fun c => ?_, fun _ => ?_⟩⟩
      · rw [nI_ltI (by omega) (by omega)] at c
        omega
      · have ol : ∀ c, fo f i none = some c → c < 2 ^ 31 := fun c hc => by have := hlt i c hc; omega
        rw [on2_none ol]
        cases hw : fo f i none with
        | none =>
          refine ⟨fun _ => bq ⟨b, rfl, ⟨_, hb5, wq_ci.eq (by decide) (c_canB hb hB (by omega)) ⟨fun c => ?_, fun c => ?_⟩⟩⟩, fun c => absurd rfl c⟩
          · rw [b2i_0, Bool.not_eq_false] at c
            rw [hst, hw, ← hf] at ih
            simp only [c, if_true] at ih
            rw [nI_1]
            exact ih
          · rw [b2i_0] at c
            rw [hst, hw, ← hf] at ih
            simp only [c, Bool.false_eq_true, if_false] at ih
            rw [nI_1]
            exact ih
        | some w =>
          have wl := hlt i w hw
          have e1 : bc i 31 = bc i 20 := bc_31 (n := 9) (by omega) (by omega)
          have e2 : bc w 31 = bc w 20 := bc_31 (n := 9) (by omega) (by omega)
          have b1 := bc_le i 20
          have b2 := bc_le w 20
          refine ⟨fun c => (by cases c), fun _ => wq_ci.eq (by decide) (c_bits (by omega)) (wq_ci.eq (by decide) (c_bits (by omega)) ?_)⟩
          rw [e1, e2, nI_leI (by omega) (by omega)]
          refine ⟨fun c => ?_, fun c => bq ⟨b, rfl, ⟨_, hb5, wq_ci.eq (by decide) (c_canB hb hB (by omega)) ⟨fun c2 => ?_, fun c2 => ?_⟩⟩⟩⟩
          · rw [hst, hw, ← hf] at ih
            simp only [show ¬ bc i 20 < bc w 20 by omega, false_and, if_false] at ih
            rw [nI_1]
            exact ih
          · rw [b2i_0, Bool.not_eq_false] at c2
            rw [hst, hw, ← hf] at ih
            simp only [c2, Bool.true_eq_false, and_false, if_false] at ih
            rw [nI_1]
            exact ih
          · rw [b2i_0] at c2
            rw [hst, hw, ← hf] at ih
            simp only [show bc i 20 < bc w 20 by omega, c2, and_self, if_true] at ih
            rw [nI_1]
            exact ih
theorem c_game (k : cd G h Z x D) (dk : dok D) : wq_C G l 4 0 0 mX1_game [.ref x] h (wq_qi (pk G Z x h (dk_t D (kT D)) (qK D (-1) fun K => nI (zs_game K.2.2.1)))) := by
  cases e : D.2.2.2.2.2 with
  | none =>
    rw [kT_n e, qK_n e]
    exact wq_C.of pn_X1 (Nat.le_of_ble_eq_true rfl) rfl (vX1_game_0 (k.n e (none_k (u_refused k (by decide) (by decide) fun h' => pk_of))))
  | some K =>
    rw [kT_k e, qK_k e]
    obtain ⟨fs, b, hx, h5, hb⟩ := k.kb e
    have hB := (dk.2.2 K e).2.1
    have h99 := hB.1
    have h8 := hB.2.1
    have h9 := pow_9 hB.1
    have bq : ∀ {F : Option Nat → Prop}, F (some b) → wq_gQ h x [(0, 5)] F := fun q => gQ1 hx (x := some b) h5 q
    obtain ⟨-, t0, l0, r0, u0, hb5, hli, -⟩ := id hb
    refine wq_C.of pn_X1 (Nat.le_of_ble_eq_true rfl) rfl (vX1_game_0 (bq (some_k ?_)))
    generalize hp : (fun (v k : Nat) => zs_so (zs_li K.2.2.1 k) v) = p
    generalize hf : (fun (v m : Nat) => if m < cnt (p v) K.2.2.1.2.1.length then cnt (p v) K.2.2.1.2.1.length else m) = f
    have hg : zs_game K.2.2.1 = fo f (2 ^ K.2.2.1.1) 0 := by rw [← hf, ← hp]; rfl
    have hle : ∀ n, fo f n 0 ≤ 8 := by
      intro n
      induction n with
      | zero => exact Nat.zero_le _
      | succ n ih =>
        have := cnt_le (p n) K.2.2.1.2.1.length
        show f n (fo f n 0) ≤ 8
        rw [← hf] at ih ⊢
        show (if _ < _ then _ else _) ≤ 8
        split <;> omega
    refine down (P := fun i => wq_T G l 4 mX1_game (wq_qi (pk G Z x h (dk_t D 0) (nI (zs_game K.2.2.1)))) 17 [some (.ref x), some (.int (nI (fo f i 0))), some (.int (nI i)), none, none] [] h 0 0) (n := 2 ^ K.2.2.1.1) ?_ ?_
    · refine vX1_game_17 (bq ⟨b, rfl, bk_pt hb ?_⟩)
      rw [nI_shl (by omega), hg]
      exact ⟨fun _ => u_well k (by decide) fun h' => pk_of, fun c => absurd (Int32.le_refl _) c⟩
    · intro i hi ih
      refine vX1_game_17 (bq ⟨b, rfl, bk_pt hb ?_⟩)
      rw [nI_shl (by omega)]
      refine ⟨fun c => ?_, fun _ => ?_⟩
      · rw [nI_leI (by omega) (by omega)] at c
        omega
      · refine down (P := fun j => wq_T G l 4 mX1_game (wq_qi (pk G Z x h (dk_t D 0) (nI (zs_game K.2.2.1)))) 35 [some (.ref x), some (.int (nI (fo f i 0))), some (.int (nI i)), some (.int (nI (cnt (p i) j))), some (.int (nI j))] [] h 0 0) (n := K.2.2.1.2.1.length) ?_ ?_
        · have c1 := cnt_le (p i) K.2.2.1.2.1.length
          have c2 := hle i
          refine vX1_game_35 (bq ⟨b, rfl, gR1 hb5 rfl (lo_size hli (by decide) ⟨fun _ => wq_ci.eq (by decide) (c_max (by omega) (by omega)) ?_, fun c => absurd (Int32.le_refl _) c⟩)⟩)
          have e1 : max (fo f i 0) (cnt (p i) K.2.2.1.2.1.length) = fo f (i + 1) 0 := by
            show _ = f i (fo f i 0)
            rw [← hf]
            show _ = if _ < _ then _ else _
            split <;> omega
          rw [e1, nI_1]
          exact ih
        · intro j hj ih2
          obtain ⟨o1, o2, o3, o4, o5, o6, o7⟩ := li_ok hB hj
          refine vX1_game_35 (bq ⟨b, rfl, gR1 hb5 rfl (lo_size hli (by decide) ⟨fun c => ?_, fun _ => bq ⟨b, rfl, gR1 hb5 rfl (lo_get hli (li_get hj) (by decide) fun q hq => ⟨q, 10, _, rfl, by decide, hq.2, ⟨_, hq.2, wq_ci.eq (by decide) (c_isSo hq o1 o2 o3 o4 o5 o6 o7 (v := i) (by omega)) ⟨fun c => ?_, fun c => ?_⟩⟩⟩)⟩⟩)⟩)
          · rw [nI_leI (by omega) (by omega)] at c
            omega
          · rw [b2i_0] at c
            have c1 : p i j = false := by rw [← hp]; exact c
            rw [cnt, c1] at ih2
            rw [nI_1, nI_lit 0, nI_add]
            exact ih2
          · rw [b2i_0, Bool.not_eq_false] at c
            have c1 : p i j = true := by rw [← hp]; exact c
            rw [cnt, c1] at ih2
            rw [nI_1, nI_1]
            exact ih2
theorem c_isSquare {a b : Nat} {u v : Nat → Int} (ha : ry_at G h P a u) (hb : ry_at G h P b v) (hu : ∀ k, k < 4 → -3 ≤ u k ∧ u k ≤ 3) (hv : ∀ k, k < 4 → -3 ≤ v k ∧ v k ≤ 3) : wq_C G l 0 0 0 mX13_isSquare [.ref a, .ref b] h (wq_qi fun r h' => r = b2i (decide (zs_dot u v = 0)) ∧ h' = h) := by
  obtain ⟨-, sa, f, a1, -, a3, a4⟩ := ha
  obtain ⟨-, sb, g, b1, -, b3, b4⟩ := hb
  refine wq_C.of pn_X13 (Nat.le_of_ble_eq_true rfl) rfl (vX13_isSquare_0 ?_)
  refine down (P := fun i => wq_T G l 0 mX13_isSquare (wq_qi fun r h' => r = b2i (decide (zs_dot u v = 0)) ∧ h' = h) 4 [some (.ref a), some (.ref b), some (.int (iI (fo (fun k s => s + u k * v k) i (0 : Int)))), some (.int (nI i))] [] h 0 0) (n := 4) ?_ ?_
  · have e : fo (fun k s => s + u k * v k) 4 (0 : Int) = zs_dot u v := by simp [fo, zs_dot]
    have bd : ∀ k, k < 4 → -9 ≤ u k * v k ∧ u k * v k ≤ 9 := by
      intro k hk
      have q1 := hu k hk
      have q2 := hv k hk
      obtain q | q | q | q | q | q | q : u k = -3 ∨ u k = -2 ∨ u k = -1 ∨ u k = 0 ∨ u k = 1 ∨ u k = 2 ∨ u k = 3 := by omega
      all_goals rw [q]; omega
    have b0 := bd 0 (by omega)
    have b1 := bd 1 (by omega)
    have b2 := bd 2 (by omega)
    have b3 := bd 3 (by omega)
    have bz : -36 ≤ zs_dot u v ∧ zs_dot u v ≤ 36 := by unfold zs_dot; omega
    rw [e]
    refine vX13_isSquare_4 ⟨fun _ => ⟨fun c => ⟨?_, rfl⟩, fun c => ⟨?_, rfl⟩⟩, fun c => absurd (by decide) c⟩
    · rw [iI_lit 0, iI_inj (by omega) (by omega) (by omega) (by omega)] at c
      exact b2i_not c
    · rw [iI_lit 0, iI_inj (by omega) (by omega) (by omega) (by omega)] at c
      exact b2i_of c
  · intro i hi ih
    refine vX13_isSquare_4 ⟨fun c => ?_, fun _ => gR1 a1 rfl (ai_n a3 i rfl hi (by omega) (gR1 b1 rfl (ai_n b3 i rfl hi (by omega) ?_)))⟩
    · rw [nI_lit 4, nI_leI (by omega) (by omega)] at c
      omega
    · rw [a4 i hi, b4 i hi, iI_mul, iI_add, nI_1]
      exact ih
theorem ra_ok (hB : zs_bok L B) {k : Nat} (h : k < B.2.2.1.length) : ∀ j, j < 4 → -3 ≤ zs_ra B k j ∧ zs_ra B k j ≤ 3 := (hB.2.2.2.2.1 _ (ra_mem h)).1
theorem c_isRay (k : cd G h Z x D) (dk : dok D) (v : Int32) : wq_C G l 1 0 0 mX1_isRay [.ref x, .int v] h (wq_qi fun r h' => r = b2i (match D.2.2.2.2.2 with
    | none => false
    | some K => inB v K.2.2.1.2.2.1.length) ∧ h' = h) := by
  cases e : D.2.2.2.2.2 with
  | none => exact wq_C.of pn_X1 (Nat.le_of_ble_eq_true rfl) rfl (vX1_isRay_0 (k.n e (none_k ⟨rfl, rfl⟩)))
  | some K =>
    obtain ⟨fs, b, hx, h5, hb⟩ := k.kb e
    have h18 := (dk.2.2 K e).2.1.2.2.2.1
    have bq : ∀ {F : Option Nat → Prop}, F (some b) → wq_gQ h x [(0, 5)] F := fun q => gQ1 hx (x := some b) h5 q
    obtain ⟨-, t0, l0, r0, u0, hb5, hli, hra, -⟩ := id hb
    refine wq_C.of pn_X1 (Nat.le_of_ble_eq_true rfl) rfl (vX1_isRay_0 (bq (some_k (bq ⟨b, rfl, gR1 hb5 rfl (lo_size hra (by decide) (wq_ci.eq (by decide) (c_inB v (by omega)) ⟨fun c => ⟨?_, rfl⟩, fun c => ⟨?_, rfl⟩⟩))⟩))))
    · rw [b2i_0] at c; simp [c, b2i]
    · rw [b2i_0, Bool.not_eq_false] at c; simp [c, b2i]
theorem c_square (k : cd G h Z x D) (dk : dok D) (v w : Int32) : wq_C G l 3 0 0 mX1_square [.ref x, .int v, .int w] h (wq_qi (pk G Z x h (dk_t D (qK D 1 fun K => if inB v K.2.2.1.2.2.1.length && (inB w K.2.2.1.2.2.1.length && decide (v ≠ w)) then 0 else 1)) (qK D (-1) fun K => if inB v K.2.2.1.2.2.1.length && (inB w K.2.2.1.2.2.1.length && decide (v ≠ w)) then b2i (decide (zs_dot (zs_ra K.2.2.1 v.toNatClampNeg) (zs_ra K.2.2.1 w.toNatClampNeg) = 0)) else -1))) := by
  obtain ⟨tp, pr, pa, fu, mk, bk, tb, kx⟩ := id k
  refine wq_C.of pn_X1 (Nat.le_of_ble_eq_true rfl) rfl (vX1_square_0 ⟨_, kx.2.2.2.1, wq_ci.eq (by decide) (c_isRay k dk v) ?_⟩)
  cases e : D.2.2.2.2.2 with
  | none =>
    rw [qK_n e, qK_n e]
    exact ⟨fun _ => u_refused k (by decide) (by decide) fun h' => pk_of, fun c => absurd rfl c⟩
  | some K =>
    rw [qK_k e, qK_k e]
    obtain ⟨fs, b, hx, h5, hb⟩ := k.kb e
    have hB := (dk.2.2 K e).2.1
    have h18 := hB.2.2.2.1
    have bq : ∀ {F : Option Nat → Prop}, F (some b) → wq_gQ h x [(0, 5)] F := fun q => gQ1 hx (x := some b) h5 q
    obtain ⟨-, t0, l0, r0, u0, hb5, hli, hra, -⟩ := id hb
    refine ⟨fun c => ?_, fun c => ?_⟩
    · rw [b2i_0] at c
      have c : inB v K.2.2.1.2.2.1.length = false := c
      rw [c]
      exact u_refused k (by decide) (by decide) fun h' => pk_of
    · rw [b2i_0, Bool.not_eq_false] at c
      have c : inB v K.2.2.1.2.2.1.length = true := c
      rw [c, Bool.true_and]
      have cw := c_isRay (l := l) k dk w
      rw [e] at cw
      refine ⟨_, hx, wq_ci.eq (by decide) cw ⟨fun c2 => ?_, fun c2 => ⟨fun c3 => ?_, fun c3 => ?_⟩⟩⟩
      · rw [b2i_0] at c2
        have c2 : inB w K.2.2.1.2.2.1.length = false := c2
        rw [c2]
        exact u_refused k (by decide) (by decide) fun h' => pk_of
      · have c4 : (inB w K.2.2.1.2.2.1.length && decide (v ≠ w)) = false := by simp [c3]
        rw [c4]
        exact u_refused k (by decide) (by decide) fun h' => pk_of
      · rw [b2i_0, Bool.not_eq_false] at c2
        have c2 : inB w K.2.2.1.2.2.1.length = true := c2
        have c4 : (inB w K.2.2.1.2.2.1.length && decide (v ≠ w)) = true := by simp [c2, c3]
        rw [c4]
        obtain ⟨i, hi, rfl⟩ := inB_of c
        obtain ⟨j, hj, rfl⟩ := inB_of c2
        rw [nI_clamp (by omega), nI_clamp (by omega)]
        refine bq ⟨b, rfl, gR1 hb5 rfl (lo_get hra (ra_get hi) (by decide) fun p hp => ⟨p, 11, _, rfl, by decide, hp.2.choose_spec.choose_spec.1, bq ⟨b, rfl, gR1 hb5 rfl (lo_get hra (ra_get hj) (by decide) fun q hq => ⟨q, 11, _, rfl, by decide, hq.2.choose_spec.choose_spec.1, ⟨_, hp.2.choose_spec.choose_spec.1, wq_ci.eq (by decide) (c_isSquare hp hq (ra_ok hB hi) (ra_ok hB hj)) ⟨fun c5 => ?_, fun c5 => ?_⟩⟩⟩)⟩⟩)⟩
        · rw [b2i_0] at c5
          rw [c5]
          exact u_well k (by decide) fun h' => pk_of
        · rw [b2i_0, Bool.not_eq_false] at c5
          rw [c5]
          exact u_well k (by decide) fun h' => pk_of
theorem wide_lt {T : zs_T} {N : Nat} : ∀ n c, fo (fun set b => if zs_cyc T set then (match b with
    | none => some set
    | some c => if zs_exc T N c < zs_exc T N set then some set else some c) else b) n none = some c → c < n ∧ zs_cyc T c = true := by
  intro n
  induction n with
  | zero => intro c h; cases h
  | succ n ih =>
    intro c h
    simp only [fo] at h
    split at h
    · rename_i q
      split at h
      · cases h; exact ⟨by omega, q⟩
      · rename_i c' e
        split at h
        · cases h; exact ⟨by omega, q⟩
        · cases h
          have := ih _ e
          exact ⟨by omega, this.2⟩
    · have := ih _ h
      exact ⟨by omega, this.2⟩
theorem exc_le {T : zs_T} (hT : zs_ok L N T) (hN : N ≤ 60) {set : Nat} (hs : set < 2 ^ T.length) (h2 : ∀ k, k < T.length → set.testBit k = true → (zs_at T k).2.1 ≠ none) (hne : ∃ k, k < T.length ∧ set.testBit k = true) : -200000 ≤ zs_exc T N set ∧ zs_exc T N set ≤ 200000 := by
  have h8 := hT.1
  have := ab_x_eq hT hN hs h2 hne
  have hv : ∀ k, k < T.length → set.testBit k = true → -60 ≤ zs_sm T k ∧ zs_sm T k ≤ 60 := fun k hk hb => zs_sm_le hT hN hk (h2 k hk hb)
  have q := ab_x_le T set hv h8 (2 ^ T.length)
  have hb := bc_le set 20
  have m1 : (N : Int) * ((bc set 20 : Int) - 2) ≤ 60 * 20 := by
    have : (N : Int) * ((bc set 20 : Int) - 2) ≤ N * 18 := Int.mul_le_mul_of_nonneg_left (by omega) (by omega)
    omega
  have m2 : -(60 * 20) ≤ (N : Int) * ((bc set 20 : Int) - 2) := by
    have : (N : Int) * (-2) ≤ N * ((bc set 20 : Int) - 2) := Int.mul_le_mul_of_nonneg_left (by omega) (by omega)
    omega
  omega
theorem c_widest (k : cd G h Z x D) (dk : dok D) : wq_C G l 6 0 0 mX1_widest [.ref x] h (wq_qi (pk G Z x h (dk_t D (kT D)) (qK D (-1) fun K => on2 (zs_wide K.2.2.2.1 K.2.1)))) := by
  cases e : D.2.2.2.2.2 with
  | none =>
    rw [kT_n e, qK_n e]
    exact wq_C.of pn_X1 (Nat.le_of_ble_eq_true rfl) rfl (vX1_widest_0 (k.n e (none_k (u_refused k (by decide) (by decide) fun h' => pk_of))))
  | some K =>
    rw [kT_k e, qK_k e]
    obtain ⟨b, t, li, ba, sa, ta, ca, V⟩ := k.k e
    have q := (dk.2.2 K e).all
    have h8 := q.1.1
    have hp := pow_9 h8
    refine wq_C.of pn_X1 (Nat.le_of_ble_eq_true rfl) rfl (vX1_widest_0 (V.book (some_k ?_)))
    generalize hf : (fun (set : Nat) (b : Option Nat) => if zs_cyc K.2.2.2.1 set then (match b with
      | none => some set
      | some c => if zs_exc K.2.2.2.1 K.2.1 c < zs_exc K.2.2.2.1 K.2.1 set then some set else some c) else b) = f
    have hwide : zs_wide K.2.2.2.1 K.2.1 = fo f (2 ^ K.2.2.2.1.length) none := by rw [← hf]; rfl
    have hlt : ∀ n c, fo f n none = some c → c < n ∧ zs_cyc K.2.2.2.1 c = true := by rw [← hf]; exact wide_lt
    refine down (P := fun i => wq_T G l 6 mX1_widest (wq_qi (pk G Z x h (dk_t D 0) (on2 (zs_wide K.2.2.2.1 K.2.1)))) 18 [some (.ref x), some (.int (on2 (fo f i none))), some (.int (nI i))] [] h 0 0) (n := 2 ^ K.2.2.2.1.length) ?_ ?_
    · refine vX1_widest_18 (V.tab (u_size V.2.2 (by decide) ?_))
      rw [nI_shl (by omega), hwide]
      exact ⟨fun _ => u_well k (by decide) fun h' => pk_of, fun c => absurd (Int32.le_refl _) c⟩
    · intro i hi ih
      have hst : fo f (i + 1) none = f i (fo f i none) := rfl
      refine vX1_widest_18 (V.tab (u_size V.2.2 (by decide) ?_))
      rw [nI_shl (by omega)]
      refine ⟨fun c => ?_, fun _ => V.tab ⟨_, V.2.2.1, wq_ci.eq (by decide) (c_isCycle V.2.2 q.1 q.2.1 (x := i) (by omega)) ⟨fun c => ?_, fun c => ?_⟩⟩⟩
      · rw [nI_leI (by omega) (by omega)] at c
        omega
      · rw [b2i_0] at c
        simp only [hi, decide_true, Bool.true_and] at c
        rw [hst, ← hf] at ih
        simp only [c, Bool.false_eq_true, if_false] at ih
        rw [hf] at ih
        rw [nI_1]
        exact ih
      · rw [b2i_0, Bool.not_eq_false] at c
        simp only [hi, decide_true, Bool.true_and] at c
        have ol : ∀ c, fo f i none = some c → c < 2 ^ 31 := fun c hc => by have := (hlt i c hc).1; omega
        have two := cyc_two hi h8 c
        rw [on2_none ol]
        cases hw : fo f i none with
        | none =>
          refine ⟨fun _ => ?_, fun c => absurd rfl c⟩
          rw [hst, hw, ← hf] at ih
          simp only [c, if_true] at ih
          rw [nI_1]
          exact ih
        | some w =>
          obtain ⟨w1, w2⟩ := hlt i w hw
          have tw := cyc_two (by omega) h8 w2
          have x1 := exc_le q.1 q.2.2.2.1 hi two.1 two.2
          have x2 := exc_le q.1 q.2.2.2.1 (show w < 2 ^ K.2.2.2.1.length by omega) tw.1 tw.2
          refine ⟨fun c => (by cases c), fun _ => V.tab (V.book ⟨b, rfl, V.of ⟨_, V.2.2.1, wq_ci.eq (by decide) (c_excess V.2.2 q.1 q.2.1 q.2.2.2.1 hi two.1) (V.tab (V.book ⟨b, rfl, V.of ⟨_, V.2.2.1, wq_ci.eq (by decide) (c_excess V.2.2 q.1 q.2.1 q.2.2.2.1 (show w < 2 ^ K.2.2.2.1.length by omega) tw.1) ?_⟩⟩))⟩⟩)⟩
          rw [iI_le (by omega) (by omega) (by omega) (by omega), nI_1]
          refine ⟨fun c2 => ?_, fun c2 => ?_⟩
          · rw [hst, hw, ← hf] at ih
            simp only [c, if_true, show ¬ zs_exc K.2.2.2.1 K.2.1 w < zs_exc K.2.2.2.1 K.2.1 i by omega, if_false] at ih
            exact ih
          · rw [hst, hw, ← hf] at ih
            simp only [c, if_true, show zs_exc K.2.2.2.1 K.2.1 w < zs_exc K.2.2.2.1 K.2.1 i by omega] at ih
            exact ih
end CP11
