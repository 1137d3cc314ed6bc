/-! CONTRACTS of the reference: lines, second; rays -/
set_option maxRecDepth 100000
/-- a set's number, none as -2 -/
def on2 (b : Option Nat) : Int32 := match b with
  | none => -2
  | some k => nI k
theorem on2_none {b : Option Nat} (h : ∀ k, b = some k → k < 2 ^ 31) : on2 b = -2 ↔ b = none := by
  cases b with
  | none => simp [on2]
  | some k =>
    simp only [on2, reduceCtorEq, iff_false]
    intro e
    have h1 := congrArg Int32.toInt e
    rw [nI_toInt (h k rfl)] at h1
    have h2 : (-2 : Int32).toInt = -2 := by decide
    omega
theorem core_lt (B : zs_B) : ∀ n c, fo (fun set b => match b with
  | none => if zs_can B set then none else some set
  | some c => if bc set 20 < bc c 20 ∧ zs_can B set = false then some set else some c) n none = some c → c < n := by
  intro n
  induction n with
  | zero => intro c h; cases h
  | succ n ih =>
    intro c h
    simp only [fo] at h
    split at h
    · split at h
      · cases h
      · cases h; omega
    · rename_i c' e
      split at h
      · cases h; omega
      · cases h
        have := ih _ e
        omega
section TW8
variable {G : wq_G} {l : Launch} {o : Nat} {ad : Nat → Nat} {h : wq_H} {s : tw_S} {L : Nat} {B : zs_B}
theorem canv_iff (hB : tr_b s L B) {set : Nat} (hs : set < 2 ^ B.2.1.length) (v : Nat) : (nI set &&& (nI (bs (fun k => zs_so (zs_li B k) v) B.2.1.length) ^^^ (-1))) = 0 ↔ zs_canv B set v = true := by
  have h8 : B.2.1.length ≤ 8 := hB.1.2.1
  have h1 := bs_lt (fun k => zs_so (zs_li B k) v) B.2.1.length
  have h2 := pow_9 h8
  rw [and_not (by omega) (by omega)]
  unfold zs_canv
  rw [allB_iff]
  constructor
  · intro q k hk
    cases e : set.testBit k with
    | false => rfl
    | true =>
      have := q k (by omega) e
      rw [bs_bit] at this
      simpa [hk] using this
  · intro q k hk e
    have hkl : k < B.2.1.length := by
      rcases Nat.lt_or_ge k B.2.1.length with z | z
      · exact z
      · exfalso
        have : set.testBit k = false := Nat.testBit_lt_two_pow (Nat.lt_of_lt_of_le hs (Nat.pow_le_pow_right (by omega) z))
        rw [this] at e
        cases e
    have := q k hkl
    rw [bs_bit]
    simpa [hkl, e] using this
theorem t_canLines (ok : tw_ok G o ad) (hB : tr_b s L B) {set : Nat} (hs : set < 2 ^ B.2.1.length) : wq_C G l 1 0 0 mX3_canLines [.ref o, .int (nI set)] (tw_h G o ad s h) (tw_qi G o ad h fun r s' => r = b2i (zs_can B set) ∧ s' = s) := by
  have h9 := pow_9 hB.1.1
  have h99 := hB.1.1
  refine wq_C.of pn_X3 (Nat.le_of_ble_eq_true rfl) rfl (vX3_canLines_0 ok ?_)
  have stop : ∀ v, v ≤ 2 ^ B.1 → anyB (fun v => zs_canv B set v) v = true → zs_can B set = true := by
    intro v hv h
    unfold zs_can
    rw [anyB_iff] at h ⊢
    obtain ⟨k, h1, h2⟩ := h
    exact ⟨k, by omega, h2⟩
  have key : ∀ n v, v + n = 2 ^ B.1 → tw_T G l o ad h 1 mX3_canLines (tw_qi G o ad h fun r s' => r = b2i (zs_can B set) ∧ s' = s) 4 [some (.ref o), some (.int (nI set)), some (.int (b2i (anyB (fun v => zs_canv B set v) v))), some (.int (nI v))] [] s := by
    intro n
    induction n with
    | zero =>
      intro v hv
      obtain rfl : v = 2 ^ B.1 := by omega
      refine vX3_canLines_4 ok (tw_ld_n 51 rfl (by decide) ?_)
      rw [hB.2.1, nI_shl (by omega)]
      exact ⟨fun _ => ⟨b2i_z _, rfl, rfl⟩, fun c => absurd (Int32.le_refl _) c⟩
    | succ n ih =>
      intro v hv
      have ih := ih (v + 1) (by omega)
      refine vX3_canLines_4 ok (tw_ld_n 51 rfl (by decide) ?_)
      rw [hB.2.1, nI_shl (by omega)]
      refine ⟨fun c => ?_, fun _ => ?_⟩
      · rw [nI_leI (by omega) (by omega)] at c
        omega
      · rw [b2i_0]
        refine ⟨fun c => ⟨by rw [← b2i_0]; exact b2i_z _, ?_, rfl⟩, fun c => tw_ci.eq (by decide) (t_linesBy ok hB (by omega)) ?_⟩
        · simp only [Bool.not_eq_false] at c
          rw [stop v (by omega) c, c]
        · rw [canv_iff hB hs v, nI_1]
          refine ⟨fun c2 => ?_, fun c2 => ?_⟩
          · simpa [anyB, c, c2, b2i] using ih
          · simpa [anyB, c, c2, b2i] using ih
  exact key (2 ^ B.1) 0 (by omega)
theorem t_can (ok : tw_ok G o ad) (x : Int32) (b : Bool) (hb : s.1 14 = b2i b) (hB : b = true → tr_b s L B) : wq_C G l 2 0 0 mX3_can [.ref o, .int x] (tw_h G o ad s h) (tw_qi G o ad h (tw_e s (if b then (if inB x (2 ^ B.2.1.length) then b2i (zs_can B x.toNatClampNeg) else -1) else -1) (if b then (if inB x (2 ^ B.2.1.length) then 0 else 2) else 1))) := by
  refine wq_C.of pn_X3 (Nat.le_of_ble_eq_true rfl) rfl (vX3_can_0 ok (tw_cv.eq (by decide) (t_good ok) ?_))
  rw [tw_g_14, hb, b2i_0]
  refine ⟨fun c => ?_, fun c => ?_⟩
  · simp only [Bool.not_eq_false] at c
    subst c
    have hB : tr_b (tw_g s) L B := hB rfl
    have h8 := pow_9 hB.1.2.1
    have hp := Nat.two_pow_pos B.2.1.length
    refine tw_ci.eq (by decide) (t_allLines ok hB) (tw_ci.eq (by decide) (t_within ok 0 x 0 _) ?_)
    have e := in_range (x := x) (n := 2 ^ B.2.1.length) (by omega)
    have e2 := nI_pred (2 ^ B.2.1.length - 1)
    rw [show 2 ^ B.2.1.length - 1 + 1 = 2 ^ B.2.1.length by omega] at e2
    rw [e2] at e
    rw [e, b2i_0]
    refine ⟨fun c => ?_, fun c => ?_⟩
    · simp only [c, if_true, Bool.false_eq_true, if_false]
      exact tw_ci.is (by decide) (t_no ok 2) tw_e_no
    · simp only [Bool.not_eq_false] at c
      simp only [c, if_true]
      obtain ⟨x, hx, rfl⟩ := inB_of c
      rw [nI_clamp (by omega)]
      refine tw_ci.eq (by decide) (t_canLines ok hB hx) ?_
      rw [b2i_0]
      refine ⟨fun c => ?_, fun c => ?_⟩
      · rw [c]; exact tw_e_g
      · simp only [Bool.not_eq_false] at c
        rw [c]; exact tw_e_g
  · subst c
    exact tw_ci.is (by decide) (t_no ok 1) tw_e_no
theorem t_core (ok : tw_ok G o ad) (b : Bool) (hb : s.1 14 = b2i b) (hB : b = true → tr_b s L B) : wq_C G l 2 0 0 mX3_core [.ref o] (tw_h G o ad s h) (tw_qi G o ad h (tw_e s (if b then on2 (zs_core B) else -1) (if b then 0 else 1))) := by
  refine wq_C.of pn_X3 (Nat.le_of_ble_eq_true rfl) rfl (vX3_core_0 ok (tw_cv.eq (by decide) (t_good ok) ?_))
  rw [tw_g_14, hb, b2i_0]
  refine ⟨fun c => ?_, fun c => ?_⟩
  · simp only [Bool.not_eq_false] at c
    subst c
    have hB : tr_b (tw_g s) L B := hB rfl
    have h8 := pow_9 hB.1.2.1
    have hp := Nat.two_pow_pos B.2.1.length
    simp only [if_true]
    unfold zs_core
    generalize hF : (fun set b => match b with
      | none => if zs_can B set then none else some set
      | some c => if bc set 20 < bc c 20 ∧ zs_can B set = false then some set else some c) = F
    have hlt : ∀ n c, fo F n none = some c → c < n := by subst hF; exact core_lt B
    have key : ∀ n v, v + n = 2 ^ B.2.1.length → tw_T G l o ad h 2 mX3_core (tw_qi G o ad h (tw_e s (on2 (fo F (2 ^ B.2.1.length) none)) 0)) 22 [some (.ref o), some (.int (on2 (fo F v none))), some (.int (nI v))] [] (tw_g s) := by
      intro n
      induction n with
      | zero =>
        intro v hv
        obtain rfl : v = 2 ^ B.2.1.length := by omega
        refine vX3_core_22 ok (tw_ci.eq (by decide) (t_allLines ok hB) ⟨fun _ => tw_e_g, fun c => absurd ?_ c⟩)
        rw [nI_ltI (by omega) (by omega)]
        omega
      | succ n ih =>
        intro v hv
        have ih := ih (v + 1) (by omega)
        refine vX3_core_22 ok (tw_ci.eq (by decide) (t_allLines ok hB) ⟨fun c => ?_, fun _ => ?_⟩)
        · rw [nI_ltI (by omega) (by omega)] at c
          omega
        · rw [on2_none (fun k hk => by have := hlt v k hk; omega), nI_1]
          have hstep : fo F (v + 1) none = F v (fo F v none) := rfl
          rw [hstep] at ih
          cases hf : fo F v none with
          | none =>
            rw [hf] at ih
            refine ⟨fun _ => tw_ci.eq (by decide) (t_canLines ok hB (by omega)) ?_, fun c => absurd rfl c⟩
            rw [b2i_0]
            refine ⟨fun c => ?_, fun c => ?_⟩
            · simp only [Bool.not_eq_false] at c
              have e : F v none = none := by subst hF; simp [c]
              rw [e] at ih
              exact ih
            · have e : F v none = some v := by subst hF; simp [c]
              rw [e] at ih
              exact ih
          | some k =>
            rw [hf] at ih
            have hk := hlt v k hf
            have b1 := bc_le v 20
            have b2 := bc_le k 20
            refine ⟨fun c => (by cases c), fun _ => tw_ci.eq (by decide) (t_bits ok 0 (by omega)) (tw_ci.eq (by decide) (t_bits ok 0 (by omega)) ?_)⟩
            rw [nI_leI (by omega) (by omega)]
            refine ⟨fun c => ?_, fun c => tw_ci.eq (by decide) (t_canLines ok hB (by omega)) ?_⟩
            · have e : F v (some k) = some k := by
                subst hF
                have : ¬ bc v 20 < bc k 20 := by omega
                simp [this]
              rw [e] at ih
              exact ih
            · rw [b2i_0]
              refine ⟨fun c2 => ?_, fun c2 => ?_⟩
              · simp only [Bool.not_eq_false] at c2
                have e : F v (some k) = some k := by subst hF; simp [c2]
                rw [e] at ih
                exact ih
              · have e : F v (some k) = some v := by
                  subst hF
                  have : bc v 20 < bc k 20 := by omega
                  simp [this, c2]
                rw [e] at ih
                exact ih
    exact key (2 ^ B.2.1.length) 0 (by omega)
  · subst c
    exact tw_ci.is (by decide) (t_no ok 1) tw_e_no
theorem t_game (ok : tw_ok G o ad) (b : Bool) (hb : s.1 14 = b2i b) (hB : b = true → tr_b s L B) : wq_C G l 1 0 0 mX3_game [.ref o] (tw_h G o ad s h) (tw_qi G o ad h (tw_e s (if b then nI (zs_game B) else -1) (if b then 0 else 1))) := by
  refine wq_C.of pn_X3 (Nat.le_of_ble_eq_true rfl) rfl (vX3_game_0 ok (tw_cv.eq (by decide) (t_good ok) ?_))
  rw [tw_g_14, hb, b2i_0]
  refine ⟨fun c => ?_, fun c => ?_⟩
  · simp only [Bool.not_eq_false] at c
    subst c
    have hB : tr_b (tw_g s) L B := hB rfl
    have h9 := pow_9 hB.1.1
    have h99 := hB.1.1
    have h8 := hB.1.2.1
    have h88 := pow_9 h8
    simp only [if_true]
    have hle : ∀ n, fo (fun v m => if m < cnt (fun k => zs_so (zs_li B k) v) B.2.1.length then cnt (fun k => zs_so (zs_li B k) v) B.2.1.length else m) n 0 ≤ 8 := by
      intro n
      induction n with
      | zero => simp [fo]
      | succ n ih =>
        simp only [fo]
        have := cnt_le (fun k => zs_so (zs_li B k) n) B.2.1.length
        split <;> omega
    unfold zs_game
    generalize hF : (fun v m => if m < cnt (fun k => zs_so (zs_li B k) v) B.2.1.length then cnt (fun k => zs_so (zs_li B k) v) B.2.1.length else m) = F at *
    have key : ∀ n v, v + n = 2 ^ B.1 → tw_T G l o ad h 1 mX3_game (tw_qi G o ad h (tw_e s (nI (fo F (2 ^ B.1) 0)) 0)) 21 [some (.ref o), some (.int (nI (fo F v 0))), some (.int (nI v))] [] (tw_g s) := by
      intro n
      induction n with
      | zero =>
        intro v hv
        obtain rfl : v = 2 ^ B.1 := by omega
        refine vX3_game_21 ok (tw_ld_n 51 rfl (by decide) ?_)
        rw [hB.2.1, nI_shl (by omega)]
        exact ⟨fun _ => tw_e_g, fun c => absurd (Int32.le_refl _) c⟩
      | succ n ih =>
        intro v hv
        have ih := ih (v + 1) (by omega)
        have hbs := bs_lt (fun k => zs_so (zs_li B k) v) B.2.1.length
        have hbc := bc_bs (fun k => zs_so (zs_li B k) v) (n := B.2.1.length) (m := 20) (by omega)
        have hcl := cnt_le (fun k => zs_so (zs_li B k) v) B.2.1.length
        have hl := hle v
        refine vX3_game_21 ok (tw_ld_n 51 rfl (by decide) ?_)
        rw [hB.2.1, nI_shl (by omega)]
        refine ⟨fun c => ?_, fun _ => tw_ci.eq (by decide) (t_linesBy ok hB (by omega)) (tw_ci.eq (by decide) (t_bits ok 0 (by omega)) ?_)⟩
        · rw [nI_leI (by omega) (by omega)] at c
          omega
        · rw [hbc, nI_leI (by omega) (by omega), nI_1]
          refine ⟨fun c => ?_, fun c => tw_ci.eq (by decide) (t_linesBy ok hB (by omega)) (tw_ci.eq (by decide) (t_bits ok 0 (by omega)) ?_)⟩
          · have e : fo F (v + 1) 0 = fo F v 0 := by
              show F v (fo F v 0) = _
              subst hF
              exact if_neg (by omega)
            rw [e] at ih
            exact ih
          · have e : fo F (v + 1) 0 = cnt (fun k => zs_so (zs_li B k) v) B.2.1.length := by
              show F v (fo F v 0) = _
              subst hF
              exact if_pos (by omega)
            rw [e] at ih
            rw [hbc]
            exact ih
    exact key (2 ^ B.1) 0 (by omega)
  · subst c
    exact tw_ci.is (by decide) (t_no ok 1) tw_e_no
theorem ra_le (hB : tr_b s L B) {n : Nat} (hn : n < B.2.2.1.length) {k : Nat} (hk : k < 4) : -3 ≤ zs_ra B n k ∧ zs_ra B n k ≤ 3 := (hB.1.2.2.2.2.1 _ (ra_mem hn)).1 k hk
theorem dot_le {a b : Int} (ha : -3 ≤ a ∧ a ≤ 3) (hb : -3 ≤ b ∧ b ≤ 3) : -9 ≤ a * b ∧ a * b ≤ 9 := by
  obtain ⟨a1, a2⟩ := ha
  have : a = -3 ∨ a = -2 ∨ a = -1 ∨ a = 0 ∨ a = 1 ∨ a = 2 ∨ a = 3 := by omega
  rcases this with rfl | rfl | rfl | rfl | rfl | rfl | rfl <;> omega
theorem t_areSquare (ok : tw_ok G o ad) (hB : tr_b s L B) {m n : Nat} (hm : m < B.2.2.1.length) (hn : n < B.2.2.1.length) : wq_C G l 0 0 0 mX3_areSquare [.ref o, .int (nI m), .int (nI n)] (tw_h G o ad s h) (tw_qi G o ad h fun r s' => r = b2i (decide (zs_dot (zs_ra B m) (zs_ra B n) = 0)) ∧ s' = s) := by
  have h18 := hB.1.2.2.2.1
  have hr := hB.2.2.2.2.2.1
  have i : ∀ a j : Nat, (86 : Int32) + 4 * nI a + nI j = nI (86 + 4 * a + j) := fun a j => by rw [nI_lit 86, nI_lit 4, nI_mul, nI_add, nI_add]
  have lt : ∀ j, j < 4 → ¬ (4 : Int32) ≤ nI j := by decide
  have d0 := dot_le (ra_le hB hm (k := 0) (by omega)) (ra_le hB hn (k := 0) (by omega))
  have d1 := dot_le (ra_le hB hm (k := 1) (by omega)) (ra_le hB hn (k := 1) (by omega))
  have d2 := dot_le (ra_le hB hm (k := 2) (by omega)) (ra_le hB hn (k := 2) (by omega))
  have d3 := dot_le (ra_le hB hm (k := 3) (by omega)) (ra_le hB hn (k := 3) (by omega))
  refine wq_C.of pn_X3 (Nat.le_of_ble_eq_true rfl) rfl (vX3_areSquare_0 ok ?_)
  refine vX3_areSquare_5 ok ⟨fun c => absurd c (lt 0 (by omega)), fun _ => tw_ld_n (86 + 4 * m + 0) (i m 0) (by show _ < 346; omega) (tw_ld_n (86 + 4 * n + 0) (i n 0) (by show _ < 346; omega) ?_)⟩
  rw [hr m hm 0 (by omega), hr n hn 0 (by omega), iI_mul, Int32.zero_add]
  refine vX3_areSquare_5 ok ⟨fun c => absurd c (lt 1 (by omega)), fun _ => tw_ld_n (86 + 4 * m + 1) (i m 1) (by show _ < 346; omega) (tw_ld_n (86 + 4 * n + 1) (i n 1) (by show _ < 346; omega) ?_)⟩
  rw [hr m hm 1 (by omega), hr n hn 1 (by omega), iI_mul, iI_add]
  refine vX3_areSquare_5 ok ⟨fun c => absurd c (lt 2 (by omega)), fun _ => tw_ld_n (86 + 4 * m + 2) (i m 2) (by show _ < 346; omega) (tw_ld_n (86 + 4 * n + 2) (i n 2) (by show _ < 346; omega) ?_)⟩
  rw [hr m hm 2 (by omega), hr n hn 2 (by omega), iI_mul, iI_add]
  refine vX3_areSquare_5 ok ⟨fun c => absurd c (lt 3 (by omega)), fun _ => tw_ld_n (86 + 4 * m + 3) (i m 3) (by show _ < 346; omega) (tw_ld_n (86 + 4 * n + 3) (i n 3) (by show _ < 346; omega) ?_)⟩
  rw [hr m hm 3 (by omega), hr n hn 3 (by omega), iI_mul, iI_add]
  refine vX3_areSquare_5 ok ⟨fun _ => ?_, fun c => absurd (by decide) c⟩
  change (¬ iI (zs_dot (zs_ra B m) (zs_ra B n)) = 0 → _) ∧ (iI (zs_dot (zs_ra B m) (zs_ra B n)) = 0 → _)
  rw [show (0 : Int32) = iI 0 from rfl, iI_inj (by unfold zs_dot; omega) (by unfold zs_dot; omega) (by omega) (by omega)]
  exact ⟨fun c => ⟨b2i_not c, rfl⟩, fun c => ⟨b2i_of c, rfl⟩⟩
theorem t_isRay (ok : tw_ok G o ad) (x : Int32) (b : Bool) (hb : s.1 14 = b2i b) (hB : b = true → tr_b s L B) : wq_C G l 1 0 0 mX3_isRay [.ref o, .int x] (tw_h G o ad s h) (tw_qi G o ad h fun r s' => r = b2i (b && inB x B.2.2.1.length) ∧ s' = s) := by
  refine wq_C.of pn_X3 (Nat.le_of_ble_eq_true rfl) rfl (vX3_isRay_0 ok ⟨fun c => ?_, fun c => ?_⟩)
  · rw [hb, b2i_0] at c
    rw [c]
    exact ⟨rfl, rfl⟩
  · rw [hb, b2i_0] at c
    simp only [Bool.not_eq_false] at c
    have hB := hB c
    have h18 := hB.1.2.2.2.1
    refine tw_ld_n 85 rfl (by decide) ?_
    rw [hB.2.2.2.2.1]
    refine tw_ci.eq (by decide) (t_within ok 0 x 0 _) ?_
    rw [in_range (by omega), b2i_0, c]
    refine ⟨fun c2 => ⟨?_, rfl⟩, fun c2 => ⟨?_, rfl⟩⟩
    · rw [c2]; rfl
    · simp only [Bool.not_eq_false] at c2; rw [c2]; rfl
theorem t_square (ok : tw_ok G o ad) (x y : Int32) (b : Bool) (hb : s.1 14 = b2i b) (hB : b = true → tr_b s L B) : wq_C G l 2 0 0 mX3_square [.ref o, .int x, .int y] (tw_h G o ad s h) (tw_qi G o ad h (tw_e s (if b && (inB x B.2.2.1.length && (inB y B.2.2.1.length && decide (x ≠ y))) then b2i (decide (zs_dot (zs_ra B x.toNatClampNeg) (zs_ra B y.toNatClampNeg) = 0)) else -1) (if b && (inB x B.2.2.1.length && (inB y B.2.2.1.length && decide (x ≠ y))) then 0 else 1))) := by
  refine wq_C.of pn_X3 (Nat.le_of_ble_eq_true rfl) rfl (vX3_square_0 ok (tw_cv.eq (by decide) (t_good ok) (tw_ci.eq (by decide) (t_isRay (s := tw_g s) (L := L) (B := B) ok x b ((tw_g_14 s).trans hb) hB) ?_)))
  rw [b2i_0]
  refine ⟨fun c => ?_, fun c => ?_⟩
  · rw [← Bool.and_assoc, c]
    exact tw_ci.is (by decide) (t_no ok 1) tw_e_no
  · simp only [Bool.not_eq_false] at c
    rw [← Bool.and_assoc, c, Bool.true_and]
    simp only [Bool.and_eq_true] at c
    obtain ⟨rfl, c1⟩ := c
    have hB' : tr_b (tw_g s) L B := hB rfl
    have h18 := hB'.1.2.2.2.1
    refine tw_ci.eq (by decide) (t_isRay (s := tw_g s) (L := L) (B := B) ok y true ((tw_g_14 s).trans hb) hB) ?_
    rw [b2i_0, Bool.true_and]
    refine ⟨fun c => ?_, fun c => ⟨fun c2 => ?_, fun c2 => ?_⟩⟩
    · rw [c]
      exact tw_ci.is (by decide) (t_no ok 1) tw_e_no
    · subst c2
      simp only [ne_eq, not_true, decide_false, Bool.and_false]
      exact tw_ci.is (by decide) (t_no ok 1) tw_e_no
    · simp only [Bool.not_eq_false] at c
      simp only [c, ne_eq, c2, not_false_eq_true, decide_true, Bool.and_true, if_true]
      obtain ⟨m, hm, rfl⟩ := inB_of c1
      obtain ⟨n, hn, rfl⟩ := inB_of c
      rw [nI_clamp (by omega), nI_clamp (by omega)]
      refine tw_ci.eq (by decide) (t_areSquare ok hB' hm hn) ?_
      rw [b2i_0]
      refine ⟨fun c => ?_, fun c => ?_⟩
      · rw [c]; exact tw_e_g
      · simp only [Bool.not_eq_false] at c
        rw [c]; exact tw_e_g
end TW8
