/-! BOOKS: lines, rays, runs; CONTRACTS of the reference: lines and rays -/
set_option maxRecDepth 100000
/-- a line: three points and whether it is odd; a book's points, lines, rays, runs -/
abbrev zs_N : Type := Nat × Nat × Nat × Nat
abbrev zs_B : Type := Nat × List zs_N × List (Nat → Int) × List (List (Nat × Nat))
def zs_pt (q : zs_N) (k : Nat) : Nat := if k = 0 then q.1 else if k = 1 then q.2.1 else q.2.2.1
def zs_so (q : zs_N) (v : Nat) : Bool := decide ((v / 2 ^ q.1 % 2 + v / 2 ^ q.2.1 % 2 + v / 2 ^ q.2.2.1 % 2) % 2 = q.2.2.2)
def zs_li (B : zs_B) (k : Nat) : zs_N := (B.2.1[k]?).getD (0, 0, 0, 0)
def zs_ra (B : zs_B) (k : Nat) : Nat → Int := (B.2.2.1[k]?).getD (fun _ => 0)
def zs_ru (B : zs_B) (k : Nat) : List (Nat × Nat) := (B.2.2.2[k]?).getD []
def zs_bok (L : Nat) (B : zs_B) : Prop := B.1 ≤ 9 ∧ B.2.1.length ≤ 8 ∧ (∀ q ∈ B.2.1, q.1 < B.1 ∧ q.2.1 < B.1 ∧ q.2.2.1 < B.1 ∧ q.1 ≠ q.2.1 ∧ q.1 ≠ q.2.2.1 ∧ q.2.1 ≠ q.2.2.1 ∧ q.2.2.2 ≤ 1) ∧ B.2.2.1.length ≤ 18 ∧ (∀ q ∈ B.2.2.1, (∀ k, k < 4 → -3 ≤ q k ∧ q k ≤ 3) ∧ ∃ k, k < 4 ∧ q k ≠ 0) ∧ B.2.2.2.length ≤ 4 ∧ ∀ q ∈ B.2.2.2, q.length ≤ 6 ∧ ∀ x ∈ q, x.1 < L ∧ x.2 ≤ 1
def tr_b (s : tw_S) (L : Nat) (B : zs_B) : Prop := zs_bok L B ∧ s.2.1 15 51 = nI B.1 ∧ s.2.1 15 52 = nI B.2.1.length ∧ (∀ n, n < B.2.1.length → (∀ k, k < 3 → s.2.1 15 (53 + 3 * n + k) = nI (zs_pt (zs_li B n) k)) ∧ s.2.1 15 (77 + n) = nI (zs_li B n).2.2.2) ∧ s.2.1 15 85 = nI B.2.2.1.length ∧ (∀ n, n < B.2.2.1.length → ∀ k, k < 4 → s.2.1 15 (86 + 4 * n + k) = iI (zs_ra B n k)) ∧ s.2.1 15 158 = nI B.2.2.2.length ∧ ∀ u, u < B.2.2.2.length → s.2.1 15 (159 + u) = nI (zs_ru B u).length ∧ ∀ n x, (zs_ru B u)[n]? = some x → s.2.1 15 (163 + 6 * u + n) = nI x.1 ∧ s.2.1 15 (187 + 6 * u + n) = nI x.2
theorem li_mem {B : zs_B} {k : Nat} (h : k < B.2.1.length) : zs_li B k ∈ B.2.1 := by
  unfold zs_li
  rw [List.getElem?_eq_getElem h]
  exact List.getElem_mem h
theorem ra_mem {B : zs_B} {k : Nat} (h : k < B.2.2.1.length) : zs_ra B k ∈ B.2.2.1 := by
  unfold zs_ra
  rw [List.getElem?_eq_getElem h]
  exact List.getElem_mem h
theorem ru_mem {B : zs_B} {k : Nat} (h : k < B.2.2.2.length) : zs_ru B k ∈ B.2.2.2 := by
  unfold zs_ru
  rw [List.getElem?_eq_getElem h]
  exact List.getElem_mem h
/-- all lines are so; some lines can be so at once -/
def zs_all (B : zs_B) (v : Nat) : Bool := allB (fun k => zs_so (zs_li B k) v) B.2.1.length
def zs_canv (B : zs_B) (set v : Nat) : Bool := allB (fun k => !set.testBit k || zs_so (zs_li B k) v) B.2.1.length
def zs_can (B : zs_B) (set : Nat) : Bool := anyB (fun v => zs_canv B set v) (2 ^ B.1)
def zs_core (B : zs_B) : Option Nat := fo (fun set b => match b with
  | none => if zs_can B set then none else some set
  | some c => if bc set 20 < bc c 20 ∧ zs_can B set = false then some set else some c) (2 ^ B.2.1.length) none
def zs_game (B : zs_B) : Nat := fo (fun v m => if m < cnt (fun k => zs_so (zs_li B k) v) B.2.1.length then cnt (fun k => zs_so (zs_li B k) v) B.2.1.length else m) (2 ^ B.1) 0
def zs_dot (a b : Nat → Int) : Int := a 0 * b 0 + a 1 * b 1 + a 2 * b 2 + a 3 * b 3
section TW7
variable {G : wq_G} {l : Launch} {o : Nat} {ad : Nat → Nat} {h : wq_H} {s : tw_S} {L : Nat} {B : zs_B}
theorem pow_9 {L n : Nat} (h : L ≤ n) : 2 ^ L ≤ 2 ^ n := Nat.pow_le_pow_right (by omega) h
theorem t_linesBy (ok : tw_ok G o ad) (hB : tr_b s L B) {v : Nat} (hv : v < 2 ^ 31) : wq_C G l 0 0 0 mX3_linesBy [.ref o, .int (nI v)] (tw_h G o ad s h) (tw_qi G o ad h fun r s' => r = nI (bs (fun k => zs_so (zs_li B k) v) B.2.1.length) ∧ s' = s) := by
  obtain ⟨hok, h51, h52, hli, -⟩ := hB
  have h8 : B.2.1.length ≤ 8 := hok.2.1
  have h9 : B.1 ≤ 9 := hok.1
  refine wq_C.of pn_X3 (Nat.le_of_ble_eq_true rfl) rfl (vX3_linesBy_0 ok ?_)
  generalize hQ : (tw_qi G o ad h fun r s' => r = nI (bs (fun k => zs_so (zs_li B k) v) B.2.1.length) ∧ s' = s) = Q
  have key : ∀ n k, k + n = B.2.1.length → tw_T G l o ad h 0 mX3_linesBy Q 4 [some (.ref o), some (.int (nI v)), some (.int (nI (bs (fun k => zs_so (zs_li B k) v) k))), some (.int (nI k)), none, none] [] s := by
    intro n
    induction n with
    | zero =>
      intro k hk
      obtain rfl : k = B.2.1.length := by omega
      subst hQ
      refine vX3_linesBy_4 ok (tw_ld_n 52 rfl (by decide) ?_)
      rw [h52]
      exact ⟨fun _ => ⟨rfl, rfl⟩, fun c => absurd (Int32.le_refl _) c⟩
    | succ n ih =>
      intro k hk
      have ih := ih (k + 1) (by omega)
      obtain ⟨hp, ho⟩ := hli k (by omega)
      obtain ⟨q1, q2, q3, -, -, -, q4⟩ := hok.2.2.1 _ (li_mem (B := B) (k := k) (by omega))
      have hbs := bs_lt (fun k => zs_so (zs_li B k) v) k
      subst hQ
      refine vX3_linesBy_4 ok (tw_ld_n 52 rfl (by decide) ?_)
      rw [h52]
      refine ⟨fun c => ?_, fun _ => ?_⟩
      · rw [nI_leI (by omega) (by omega)] at c
        omega
      · have i : ∀ j : Nat, (53 : Int32) + 3 * nI k + nI j = nI (53 + 3 * k + j) := fun j => by rw [nI_lit 53, nI_lit 3, nI_mul, nI_add, nI_add]
        have lt : ∀ j, j < 3 → ¬ (3 : Int32) ≤ nI j := by decide
        have m2 : ∀ j, v / 2 ^ j % 2 < 2 := fun j => Nat.mod_lt _ (by omega)
        refine vX3_linesBy_21 ok ⟨fun c => absurd c (lt 0 (by omega)), fun _ => tw_ld_n (53 + 3 * k + 0) (i 0) (by show _ < 346; omega) ?_⟩
        rw [hp 0 (by omega), show zs_pt (zs_li B k) 0 = (zs_li B k).1 from rfl, nI_bit hv (by omega), show (0 : Int32) = nI 0 from rfl, nI_add, nI_1]
        refine vX3_linesBy_21 ok ⟨fun c => absurd c (lt 1 (by omega)), fun _ => tw_ld_n (53 + 3 * k + 1) (i 1) (by show _ < 346; omega) ?_⟩
        rw [hp 1 (by omega), show zs_pt (zs_li B k) 1 = (zs_li B k).2.1 from rfl, nI_bit hv (by omega), nI_add, nI_1]
        refine vX3_linesBy_21 ok ⟨fun c => absurd c (lt 2 (by omega)), fun _ => tw_ld_n (53 + 3 * k + 2) (i 2) (by show _ < 346; omega) ?_⟩
        rw [hp 2 (by omega), show zs_pt (zs_li B k) 2 = (zs_li B k).2.2.1 from rfl, nI_bit hv (by omega), nI_add, nI_1]
        refine vX3_linesBy_21 ok ⟨fun _ => tw_ld_n (77 + k) (by rw [nI_lit 77, nI_add]) (by show _ < 346; omega) ?_, fun c => absurd (by decide) c⟩
        have a1 := m2 (zs_li B k).1
        have a2 := m2 (zs_li B k).2.1
        have a3 := m2 (zs_li B k).2.2.1
        rw [ho, nI_mod2 (by omega), nI_eq (by omega) (by omega)]
        have e0 : 0 + v / 2 ^ (zs_li B k).1 % 2 + v / 2 ^ (zs_li B k).2.1 % 2 + v / 2 ^ (zs_li B k).2.2.1 % 2 = v / 2 ^ (zs_li B k).1 % 2 + v / 2 ^ (zs_li B k).2.1 % 2 + v / 2 ^ (zs_li B k).2.2.1 % 2 := by omega
        rw [e0]
        refine ⟨fun c => ?_, fun c => ?_⟩
        · have e : bs (fun k => zs_so (zs_li B k) v) (k + 1) = bs (fun k => zs_so (zs_li B k) v) k := by
            show bs _ k + (if zs_so (zs_li B k) v then _ else _) = _
            rw [if_neg]
            · rfl
            · simpa [zs_so] using c
          rw [e] at ih
          rw [show (0 : Int32) = nI 0 from rfl, nI_or, nI_1, Nat.or_zero]
          exact ih
        · have e : bs (fun k => zs_so (zs_li B k) v) (k + 1) = bs (fun k => zs_so (zs_li B k) v) k + 2 ^ k := by
            show bs _ k + (if zs_so (zs_li B k) v then _ else _) = _
            rw [if_pos]
            simpa [zs_so] using c
          rw [e] at ih
          rw [nI_shl (by omega), nI_or, or_pow hbs, nI_1]
          exact ih
  subst hQ
  exact key B.2.1.length 0 (by omega)
theorem t_allLines (ok : tw_ok G o ad) (hB : tr_b s L B) : wq_C G l 0 0 0 mX3_allLines [.ref o] (tw_h G o ad s h) (tw_qi G o ad h fun r s' => r = nI (2 ^ B.2.1.length - 1) ∧ s' = s) := by
  obtain ⟨hok, h51, h52, hli, -⟩ := hB
  have h8 : B.2.1.length ≤ 8 := hok.2.1
  refine wq_C.of pn_X3 (Nat.le_of_ble_eq_true rfl) rfl (vX3_allLines_0 ok (tw_ld_n 52 rfl (by decide) ?_))
  rw [h52, nI_shl (by omega)]
  refine ⟨?_, rfl⟩
  have hp := Nat.two_pow_pos B.2.1.length
  have := nI_pred (2 ^ B.2.1.length - 1)
  rwa [show 2 ^ B.2.1.length - 1 + 1 = 2 ^ B.2.1.length by omega] at this
theorem all_iff (hB : tr_b s L B) (v : Nat) : nI (bs (fun k => zs_so (zs_li B k) v) B.2.1.length) = nI (2 ^ B.2.1.length - 1) ↔ zs_all B v = true := by
  have h8 : B.2.1.length ≤ 8 := hB.1.2.1
  have h1 := bs_lt (fun k => zs_so (zs_li B k) v) B.2.1.length
  have h2 := pow_9 h8
  rw [nI_eq (by omega) (by omega)]
  exact bs_all _ _
theorem t_ways (ok : tw_ok G o ad) (b : Bool) (hb : s.1 14 = b2i b) (hB : b = true → tr_b s L B) : wq_C G l 1 0 0 mX3_ways [.ref o] (tw_h G o ad s h) (tw_qi G o ad h (tw_e s (if b then nI (cnt (fun v => zs_all B v) (2 ^ B.1)) else -1) (if b then 0 else 1))) := by
  refine wq_C.of pn_X3 (Nat.le_of_ble_eq_true rfl) rfl (vX3_ways_0 ok (tw_cv.eq (by decide) (t_good ok) ?_))
  rw [tw_g_14, hb, b2i_0]
  refine ⟨fun c => ?_, fun c => ?_⟩
  · simp only [Bool.not_eq_false] at c
    subst c
    have hB : tr_b (tw_g s) L B := hB rfl
    have h9 := pow_9 hB.1.1
    have key : ∀ n v, v + n = 2 ^ B.1 → tw_T G l o ad h 1 mX3_ways (tw_qi G o ad h (tw_e s (nI (cnt (fun v => zs_all B v) (2 ^ B.1))) 0)) 21 [some (.ref o), some (.int (nI (cnt (fun v => zs_all B v) v))), some (.int (nI v))] [] (tw_g s) := by
      intro n
      induction n with
      | zero =>
        intro v hv
        obtain rfl : v = 2 ^ B.1 := by omega
        refine vX3_ways_21 ok (tw_ld_n 51 rfl (by decide) ?_)
        rw [hB.2.1, nI_shl (by have := hB.1.1; omega)]
        exact ⟨fun _ => tw_e_g, fun c => absurd (Int32.le_refl _) c⟩
      | succ n ih =>
        intro v hv
        have ih := ih (v + 1) (by omega)
        refine vX3_ways_21 ok (tw_ld_n 51 rfl (by decide) ?_)
        rw [hB.2.1, nI_shl (by have := hB.1.1; omega)]
        refine ⟨fun c => ?_, fun _ => tw_ci.eq (by decide) (t_linesBy ok hB (by omega)) (tw_ci.eq (by decide) (t_allLines ok hB) ?_)⟩
        · rw [nI_leI (by omega) (by omega)] at c
          omega
        · rw [all_iff hB v]
          refine ⟨fun c => ?_, fun c => ?_⟩
          · rw [Int32.add_zero, nI_1]
            simpa [cnt, c] using ih
          · rw [nI_1, nI_1]
            simpa [cnt, c] using ih
    exact key (2 ^ B.1) 0 (by omega)
  · subst c
    exact tw_ci.is (by decide) (t_no ok 1) tw_e_no
/-- what forced answers: a point's value in all ways -/
def zs_forced (B : zs_B) (x : Nat) : Int32 × Int32 := if cnt (fun v => zs_all B v && !v.testBit x) (2 ^ B.1) + cnt (fun v => zs_all B v && v.testBit x) (2 ^ B.1) = 0 then (-1, 6) else if cnt (fun v => zs_all B v && !v.testBit x) (2 ^ B.1) = 0 then (1, 0) else if cnt (fun v => zs_all B v && v.testBit x) (2 ^ B.1) = 0 then (0, 0) else (-2, 0)
theorem t_forced (ok : tw_ok G o ad) (x : Int32) (b : Bool) (hb : s.1 14 = b2i b) (hB : b = true → tr_b s L B) : wq_C G l 1 0 0 mX3_forced [.ref o, .int x] (tw_h G o ad s h) (tw_qi G o ad h (tw_e s (if b && inB x B.1 then (zs_forced B x.toNatClampNeg).1 else -1) (if b && inB x B.1 then (zs_forced B x.toNatClampNeg).2 else 1))) := by
  refine wq_C.of pn_X3 (Nat.le_of_ble_eq_true rfl) rfl (vX3_forced_0 ok (tw_cv.eq (by decide) (t_good ok) ?_))
  rw [tw_g_14, hb, b2i_0]
  refine ⟨fun c => ?_, fun c => ?_⟩
  · subst c
    exact tw_ci.is (by decide) (t_no ok 1) tw_e_no
  · simp only [Bool.not_eq_false] at c
    subst c
    have hB : tr_b (tw_g s) L B := hB rfl
    have h9 := pow_9 hB.1.1
    have h99 := hB.1.1
    refine tw_ld_n 51 rfl (by decide) ?_
    rw [hB.2.1]
    refine tw_ci.eq (by decide) (t_within ok 0 x 0 (nI B.1 - 1)) ?_
    rw [in_range (by omega), b2i_0]
    refine ⟨fun c => ?_, fun c => ?_⟩
    · simp only [Bool.not_eq_false] at c
      rw [c]
      obtain ⟨x, hx, rfl⟩ := inB_of c
      rw [nI_clamp (by omega)]
      have key : ∀ n v, v + n = 2 ^ B.1 → tw_T G l o ad h 1 mX3_forced (tw_qi G o ad h (tw_e s (zs_forced B x).1 (zs_forced B x).2)) 41 [some (.ref o), some (.int (nI x)), some (.int (nI (cnt (fun v => zs_all B v && !v.testBit x) v))), some (.int (nI (cnt (fun v => zs_all B v && v.testBit x) v))), some (.int (nI v))] [] (tw_g s) := by
        intro n
        induction n with
        | zero =>
          intro v hv
          obtain rfl : v = 2 ^ B.1 := by omega
          have c1 := cnt_le (fun v => zs_all B v && !v.testBit x) (2 ^ B.1)
          have c2 := cnt_le (fun v => zs_all B v && v.testBit x) (2 ^ B.1)
          refine vX3_forced_41 ok (tw_ld_n 51 rfl (by decide) ?_)
          rw [hB.2.1, nI_shl (by omega)]
          refine ⟨fun _ => ?_, fun c => absurd (Int32.le_refl _) c⟩
          rw [nI_add, nI_lit 0, nI_eq (by omega) (by omega), nI_eq (by omega) (by omega), nI_eq (by omega) (by omega)]
          refine ⟨fun d1 => ⟨fun d2 => ⟨fun d3 => ?_, fun d3 => ?_⟩, fun d2 => ?_⟩, fun d1 => ?_⟩
          · simp only [zs_forced, if_neg d1, if_neg d2, if_neg d3]; exact tw_e_g
          · simp only [zs_forced, if_neg d1, if_neg d2, if_pos d3]; exact tw_e_g
          · simp only [zs_forced, if_neg d1, if_pos d2]; exact tw_e_g
          · simp only [zs_forced, if_pos d1]
            exact tw_ci.is (by decide) (t_no ok 6) tw_e_no
        | succ n ih =>
          intro v hv
          have ih := ih (v + 1) (by omega)
          refine vX3_forced_41 ok (tw_ld_n 51 rfl (by decide) ?_)
          rw [hB.2.1, nI_shl (by omega)]
          refine ⟨fun c => ?_, fun _ => tw_ci.eq (by decide) (t_linesBy ok hB (by omega)) (tw_ci.eq (by decide) (t_allLines ok hB) ?_)⟩
          · rw [nI_leI (by omega) (by omega)] at c
            omega
          · rw [all_iff hB v]
            refine ⟨fun c => tw_ci.eq (by decide) (t_has ok 0 (by omega) (by omega)) ?_, fun c => ?_⟩
            · rw [b2i_0, nI_1, nI_1, nI_1]
              refine ⟨fun c2 => ?_, fun c2 => ?_⟩
              · simpa [cnt, c, c2] using ih
              · simp only [Bool.not_eq_false] at c2
                simpa [cnt, c, c2] using ih
            · rw [nI_1]
              simpa [cnt, c] using ih
      exact key (2 ^ B.1) 0 (by omega)
    · rw [c]
      exact tw_ci.is (by decide) (t_no ok 1) tw_e_no
end TW7
