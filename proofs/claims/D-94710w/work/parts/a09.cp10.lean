/-! CONTRACTS of the component: lines and rays -/
set_option maxRecDepth 100000
theorem pn_X12 : plainName RX12 = true := by decide +kernel
theorem pn_X13 : plainName RX13 = true := by decide +kernel
theorem cnt_pt (p : Nat → Bool) {n a : Nat} (ha : a < n) : cnt p n = (if p a = true then 1 else 0) + cnt (fun i => p i && decide (i ≠ a)) n := by
  by_cases c : p a = true
  · rw [if_pos c, cnt_one ha c, Nat.add_comm]
  · rw [if_neg c, Nat.zero_add]
    refine cnt_cong fun k _ => ?_
    by_cases e : k = a
    · rw [e]; simp at c; simp [c]
    · simp [e]
theorem cnt_0 {p : Nat → Bool} {n : Nat} (h : ∀ k, k < n → p k = false) : cnt p n = 0 := by
  induction n with
  | zero => rfl
  | succ n ih => rw [cnt, ih fun k hk => h k (by omega), h n (by omega)]; rfl
theorem mk_bits {q : zs_N} (h1 : q.1 < 9) (h2 : q.2.1 < 9) (h3 : q.2.2.1 < 9) (n1 : q.1 ≠ q.2.1) (n2 : q.1 ≠ q.2.2.1) (n3 : q.2.1 ≠ q.2.2.1) (v : Nat) : bc (v &&& zs_mk q) 31 = v / 2 ^ q.1 % 2 + v / 2 ^ q.2.1 % 2 + v / 2 ^ q.2.2.1 % 2 := by
  obtain ⟨a, b, c, r⟩ := q
  simp only at h1 h2 h3 n1 n2 n3
  have hb : ∀ k, (v &&& zs_mk (a, b, c, r)).testBit k = (v.testBit k && (decide (k = a) || decide (k = b) || decide (k = c))) := by
    intro k
    rw [Nat.testBit_and, zs_mk, Nat.testBit_or, tb2, Nat.testBit_two_pow]
    simp [eq_comm]
  rw [bc_cnt, cnt_cong (q := fun k => v.testBit k && (decide (k = a) || decide (k = b) || decide (k = c))) fun k _ => hb k]
  rw [cnt_pt _ (show a < 31 by omega), cnt_pt _ (show b < 31 by omega), cnt_pt _ (show c < 31 by omega), cnt_0, bit_div, bit_div, bit_div]
  · have n1' := n1.symm
    have n2' := n2.symm
    have n3' := n3.symm
    simp only [decide_true, Bool.true_or, Bool.or_true, Bool.and_true, ne_eq, n1, n2, n3, n1', n2', n3', not_false_eq_true, not_true_eq_false, decide_false]
    omega
  · intro k _
    by_cases e1 : k = a
    · simp [e1]
    · by_cases e2 : k = b
      · simp [e2]
      · by_cases e3 : k = c
        · simp [e3]
        · simp [e1, e2, e3]
theorem mk_lt {q : zs_N} (h1 : q.1 < 9) (h2 : q.2.1 < 9) (h3 : q.2.2.1 < 9) : zs_mk q < 2 ^ 9 := by
  unfold zs_mk
  exact Nat.or_lt_two_pow (Nat.or_lt_two_pow (Nat.pow_lt_pow_right (by omega) h1) (Nat.pow_lt_pow_right (by omega) h2)) (Nat.pow_lt_pow_right (by omega) h3)
section CP10
variable {G : wq_G} {l : Launch} {d C S : Nat} {h : wq_H} {Z : Nat → Nat → Prop} {P : Nat → Prop} {x : Nat} {D : zs_D} {L N : Nat} {B : zs_B}
theorem lo_size {α : Type} {a : Nat} {R : Nat → α → Prop} {xs : List α} (k : lo_at G h P a R xs) (hd : 0 < d) {F : Int32 → wq_H → Nat → Nat → Prop} (q : F (nI xs.length) h C S) : ∃ fs : List Value, h a = some (.inr (16, fs)) ∧ wq_ci G l d C S mJ2_size [.ref a] h F := by
  obtain ⟨es, ba, k1, k2, -⟩ := k.at
  have := c_size (l := l) k1
  rw [k2] at this
  obtain ⟨m, n, f, k3, -⟩ := k1
  exact ⟨_, k3, wq_ci.eq hd this q⟩
theorem lo_get {α : Type} {a : Nat} {R : Nat → α → Prop} {xs : List α} (k : lo_at G h P a R xs) {i : Nat} {y : α} (hi : xs[i]? = some y) (hd : 2 < d) {F : Option Nat → wq_H → Nat → Nat → Prop} (q : ∀ p, R p y → F (some p) h C S) : ∃ fs : List Value, h a = some (.inr (16, fs)) ∧ wq_cq G l d C S mJ2_get [.ref a, .int (nI i)] h F := by
  obtain ⟨es, ba, k1, k2, k3⟩ := k.at
  obtain ⟨p, k4, k5⟩ := k3 i y hi
  have := c_get (l := l) k1 k4
  obtain ⟨m, n, f, k6, -⟩ := k1
  exact ⟨_, k6, wq_cq.eq hd this (q p k5)⟩
theorem c_isSo {a : Nat} {q : zs_N} (k : ln_at h P a q) (h1 : q.1 < 9) (h2 : q.2.1 < 9) (h3 : q.2.2.1 < 9) (n1 : q.1 ≠ q.2.1) (n2 : q.1 ≠ q.2.2.1) (n3 : q.2.1 ≠ q.2.2.1) (h4 : q.2.2.2 ≤ 1) {v : Nat} (hv : v < 2 ^ 31) : wq_C G l 1 0 0 mX12_isSo [.ref a, .int (nI v)] h (wq_qi fun r h' => r = b2i (zs_so q v) ∧ h' = h) := by
  have hm := mk_lt h1 h2 h3
  have hb := bc_le (v &&& zs_mk q) 31
  refine wq_C.of pn_X12 (Nat.le_of_ble_eq_true rfl) rfl (vX12_isSo_0 (gI1 k.2 rfl ?_))
  rw [nI_and]
  refine wq_ci.eq (by decide) (c_bits (Nat.lt_of_le_of_lt Nat.and_le_left hv)) (gI1 k.2 rfl ?_)
  rw [nI_mod2 (by omega), nI_eq (by omega) (by omega), mk_bits h1 h2 h3 n1 n2 n3]
  exact ⟨fun c => ⟨b2i_not c, rfl⟩, fun c => ⟨b2i_of c, rfl⟩⟩
theorem li_get {k : Nat} (h : k < B.2.1.length) : B.2.1[k]? = some (zs_li B k) := by simp [zs_li, List.getElem?_eq_getElem h]
theorem ra_get {k : Nat} (h : k < B.2.2.1.length) : B.2.2.1[k]? = some (zs_ra B k) := by simp [zs_ra, List.getElem?_eq_getElem h]
theorem ru_get {k : Nat} (h : k < B.2.2.2.length) : B.2.2.2[k]? = some (zs_ru B k) := by simp [zs_ru, List.getElem?_eq_getElem h]
theorem li_ok (hB : zs_bok L B) {k : Nat} (h : k < B.2.1.length) : (zs_li B k).1 < 9 ∧ (zs_li B k).2.1 < 9 ∧ (zs_li B k).2.2.1 < 9 ∧ (zs_li B k).1 ≠ (zs_li B k).2.1 ∧ (zs_li B k).1 ≠ (zs_li B k).2.2.1 ∧ (zs_li B k).2.1 ≠ (zs_li B k).2.2.1 ∧ (zs_li B k).2.2.2 ≤ 1 := by
  have h1 := hB.1
  obtain ⟨q1, q2, q3, q4, q5, q6, q7⟩ := hB.2.2.1 _ (li_mem h)
  exact ⟨by omega, by omega, by omega, q4, q5, q6, q7⟩
theorem c_canv {b : Nat} (k : bk_at G h P b L N B) (hB : zs_bok L B) {set v : Nat} (hs : set < 2 ^ 31) (hv : v < 2 ^ 31) : wq_C G l 3 0 0 mX6_can [.ref b, .int (nI set), .int (nI v)] h (wq_qi fun r h' => r = b2i (zs_canv B set v) ∧ h' = h) := by
  have h8 := hB.2.1
  obtain ⟨-, t0, li, ra, ru, k1, k2, -⟩ := k
  refine wq_C.of pn_X6 (Nat.le_of_ble_eq_true rfl) rfl (vX6_can_0 ?_)
  refine down (P := fun i => allB (fun k => !set.testBit k || zs_so (zs_li B k) v) i = true → wq_T G l 3 mX6_can (wq_qi fun r h' => r = b2i (zs_canv B set v) ∧ h' = h) 2 [some (.ref b), some (.int (nI set)), some (.int (nI v)), some (.int (nI i))] [] h 0 0) (n := B.2.1.length) ?_ ?_ rfl
  · intro hp
    refine vX6_can_2 (gR1 k1 rfl (lo_size k2 (by decide) ⟨fun _ => ⟨?_, rfl⟩, fun c => absurd (Int32.le_refl _) c⟩))
    rw [zs_canv, hp]; rfl
  · intro i hi ih hp
    obtain ⟨o1, o2, o3, o4, o5, o6, o7⟩ := li_ok hB hi
    refine vX6_can_2 (gR1 k1 rfl (lo_size k2 (by decide) ⟨fun c => ?_, fun _ => wq_ci.eq (by decide) (c_has hs (by omega)) ⟨fun c => ?_, fun c => gR1 k1 rfl (lo_get k2 (li_get hi) (by decide) fun p hp2 => ⟨p, 10, _, rfl, by decide, hp2.2, ⟨_, hp2.2, wq_ci.eq (by decide) (c_isSo hp2 o1 o2 o3 o4 o5 o6 o7 hv) ⟨fun c2 => ?_, fun c2 => ⟨?_, rfl⟩⟩⟩⟩)⟩⟩))
    · rw [nI_leI (by omega) (by omega)] at c
      omega
    · rw [b2i_0] at c
      rw [nI_1]
      exact ih (by simp [allB, hp, c])
    · rw [b2i_0, Bool.not_eq_false] at c2
      rw [nI_1]
      exact ih (by simp [allB, hp, c2])
    · rw [b2i_0, Bool.not_eq_false] at c
      rw [b2i_0] at c2
      have : zs_canv B set v = false := by
        cases q : zs_canv B set v with
        | false => rfl
        | true =>
          rw [zs_canv, allB_iff] at q
          have := q i hi
          simp [c, c2] at this
      rw [this]; rfl
theorem c_canB {b : Nat} (k : bk_at G h P b L N B) (hB : zs_bok L B) {set : Nat} (hs : set < 2 ^ 31) : wq_C G l 4 0 0 mX6_can_2 [.ref b, .int (nI set)] h (wq_qi fun r h' => r = b2i (zs_can B set) ∧ h' = h) := by
  have h9 := pow_9 hB.1
  have h99 := hB.1
  obtain ⟨-, t0, li, ra, ru, k1, -⟩ := id k
  refine wq_C.of pn_X6 (Nat.le_of_ble_eq_true rfl) rfl (vX6_can_2_0 ?_)
  refine down (P := fun i => anyB (fun v => zs_canv B set v) i = false → wq_T G l 4 mX6_can_2 (wq_qi fun r h' => r = b2i (zs_can B set) ∧ h' = h) 2 [some (.ref b), some (.int (nI set)), some (.int (nI i))] [] h 0 0) (n := 2 ^ B.1) ?_ ?_ rfl
  · intro hp
    refine vX6_can_2_2 (gI1 k1 rfl ?_)
    rw [nI_shl (by omega)]
    refine ⟨fun _ => ⟨?_, rfl⟩, fun c => absurd (Int32.le_refl _) c⟩
    rw [zs_can, hp]; rfl
  · intro i hi ih hp
    refine vX6_can_2_2 (gI1 k1 rfl ?_)
    rw [nI_shl (by omega)]
    refine ⟨fun c => ?_, fun _ => ⟨_, k1, wq_ci.eq (by decide) (c_canv k hB hs (v := i) (by omega)) ⟨fun c => ?_, fun c => ⟨?_, rfl⟩⟩⟩⟩
    · rw [nI_leI (by omega) (by omega)] at c
      omega
    · rw [b2i_0] at c
      rw [nI_1]
      exact ih (by simp [anyB, hp, c])
    · rw [b2i_0, Bool.not_eq_false] at c
      have : zs_can B set = true := by
        rw [zs_can, anyB_iff]
        exact ⟨i, hi, c⟩
      rw [this]; rfl
theorem canv_all (B : zs_B) (v : Nat) : zs_canv B (2 ^ B.2.1.length - 1) v = zs_all B v := by
  have key : ∀ n, n ≤ B.2.1.length → allB (fun k => !(2 ^ B.2.1.length - 1).testBit k || zs_so (zs_li B k) v) n = allB (fun k => zs_so (zs_li B k) v) n := by
    intro n
    induction n with
    | zero => intro _; rfl
    | succ n ih =>
      intro hn
      rw [allB, allB, ih (by omega), Nat.testBit_two_pow_sub_one]
      simp [show n < B.2.1.length by omega]
  exact key _ (Nat.le_refl _)
theorem cd.kb (k : cd G h Z x D) {K : zs_K} (e : D.2.2.2.2.2 = some K) : ∃ (fs : List Value) (b : Nat), h x = some (.inr (0, fs)) ∧ fs[5]? = some (.ref b) ∧ bk_at G h (Z 1) b K.1 K.2.1 K.2.2.1 := by
  obtain ⟨tp, pr, pa, fu, mk, bk, tb, k⟩ := k
  have k7 := k.2.2.2.2.2.2
  rw [e] at k7
  obtain ⟨⟨b, t, rfl, rfl, k8, k9⟩, -⟩ := k7
  exact ⟨_, b, k.2.2.2.1, rfl, k8⟩
theorem bk_pt {b : Nat} (k : bk_at G h P b L N B) {F : Int32 → Prop} (q : F (nI B.1)) : wq_gI h b [(5, 2)] F := by
  obtain ⟨-, t0, li, ra, ru, k1, -⟩ := k
  exact gI1 k1 rfl q
theorem c_allLines {b : Nat} {fs : List Value} (hx : h x = some (.inr (0, fs))) (h5 : fs[5]? = some (.ref b)) (k : bk_at G h P b L N B) (hB : zs_bok L B) : wq_C G l 1 0 0 mX1_allLines [.ref x] h (wq_qi fun r h' => r = nI (2 ^ B.2.1.length - 1) ∧ h' = h) := by
  have h8 := hB.2.1
  obtain ⟨-, t0, li, ra, ru, k1, k2, -⟩ := id k
  refine wq_C.of pn_X1 (Nat.le_of_ble_eq_true rfl) rfl (vX1_allLines_0 (gQ1 hx (x := some b) h5 ⟨b, rfl, gR1 k1 rfl (lo_size k2 (by decide) ⟨?_, rfl⟩)⟩))
  rw [nI_shl (by omega), nI_sub1 Nat.one_le_two_pow]
theorem c_ways (k : cd G h Z x D) (dk : dok D) : wq_C G l 4 0 0 mX1_ways [.ref x] h (wq_qi (pk G Z x h (dk_t D (kT D)) (qK D (-1) fun K => nI (cnt (fun v => zs_all K.2.2.1 v) (2 ^ K.2.2.1.1))))) := by
  cases e : D.2.2.2.2.2 with
  | none =>
    rw [kT_n e, qK_n e]
    exact wq_C.of pn_X1 (Nat.le_of_ble_eq_true rfl) rfl (vX1_ways_0 (k.n e (none_k (u_refused k (by decide) (by decide) fun h' => pk_of))))
  | some K =>
    rw [kT_k e, qK_k e]
    obtain ⟨fs, b, hx, h5, hb⟩ := k.kb e
    have hB := (dk.2.2 K e).2.1
    have h99 := hB.1
    have h9 := pow_9 hB.1
    have l8 := pow_9 hB.2.1
    have bq : ∀ {F : Option Nat → Prop}, F (some b) → wq_gQ h x [(0, 5)] F := fun q => gQ1 hx (x := some b) h5 q
    refine wq_C.of pn_X1 (Nat.le_of_ble_eq_true rfl) rfl (vX1_ways_0 (bq (some_k ?_)))
    refine down (P := fun i => wq_T G l 4 mX1_ways (wq_qi (pk G Z x h (dk_t D 0) (nI (cnt (fun v => zs_all K.2.2.1 v) (2 ^ K.2.2.1.1))))) 17 [some (.ref x), some (.int (nI (cnt (fun v => zs_all K.2.2.1 v) i))), some (.int (nI i))] [] h 0 0) (n := 2 ^ K.2.2.1.1) ?_ ?_
    · refine vX1_ways_17 (bq ⟨b, rfl, bk_pt hb ?_⟩)
      rw [nI_shl (by omega)]
      exact ⟨fun _ => u_well k (by decide) fun h' => pk_of, fun c => absurd (Int32.le_refl _) c⟩
    · intro i hi ih
      refine vX1_ways_17 (bq ⟨b, rfl, bk_pt hb ?_⟩)
      rw [nI_shl (by omega)]
      obtain ⟨-, t0, l0, r0, u0, hb5, -⟩ := id hb
      refine ⟨fun c => ?_, fun _ => bq ⟨_, hx, wq_ci.eq (by decide) (c_allLines hx h5 hb hB) ⟨b, rfl, ⟨_, hb5, wq_ci.eq (by decide) (c_canv hb hB (by omega) (v := i) (by omega)) ?_⟩⟩⟩⟩
      · rw [nI_leI (by omega) (by omega)] at c
        omega
      · rw [canv_all]
        refine ⟨fun c => ?_, fun c => ?_⟩
        · rw [b2i_0] at c
          rw [cnt, c] at ih
          rw [nI_1, nI_lit 0, nI_add]
          exact ih
        · rw [b2i_0, Bool.not_eq_false] at c
          rw [cnt, c] at ih
          rw [nI_1, nI_1]
          exact ih
theorem c_can (k : cd G h Z x D) (dk : dok D) (v : Int32) : wq_C G l 5 0 0 mX1_can [.ref x, .int v] h (wq_qi (pk G Z x h (dk_t D (qK D 1 fun K => if inB v (2 ^ K.2.2.1.2.1.length) then 0 else 2)) (qK D (-1) fun K => if inB v (2 ^ K.2.2.1.2.1.length) then b2i (zs_can K.2.2.1 v.toNatClampNeg) else -1))) := by
  cases e : D.2.2.2.2.2 with
  | none =>
    rw [qK_n e, qK_n e]
    exact wq_C.of pn_X1 (Nat.le_of_ble_eq_true rfl) rfl (vX1_can_0 (k.n e (none_k (u_refused k (by decide) (by decide) fun h' => pk_of))))
  | some K =>
    rw [qK_k e, qK_k e]
    obtain ⟨fs, b, hx, h5, hb⟩ := k.kb e
    have hB := (dk.2.2 K e).2.1
    have l8 := pow_9 hB.2.1
    have bq : ∀ {F : Option Nat → Prop}, F (some b) → wq_gQ h x [(0, 5)] F := fun q => gQ1 hx (x := some b) h5 q
    have e1 : nI (2 ^ K.2.2.1.2.1.length - 1) = nI (2 ^ K.2.2.1.2.1.length) - 1 := (nI_sub1 Nat.one_le_two_pow).symm
    refine wq_C.of pn_X1 (Nat.le_of_ble_eq_true rfl) rfl (vX1_can_0 (bq (some_k ⟨_, hx, wq_ci.eq (by decide) (c_allLines hx h5 hb hB) ?_⟩)))
    rw [e1]
    obtain ⟨-, t0, l0, r0, u0, hb5, -⟩ := id hb
    refine wq_ci.eq (by decide) (c_inB v (by omega)) ⟨fun c => ?_, fun c => ?_⟩
    · rw [b2i_0] at c
      rw [c]
      exact u_refused k (by decide) (by decide) fun h' => pk_of
    · rw [b2i_0, Bool.not_eq_false] at c
      rw [c]
      obtain ⟨i, hi, rfl⟩ := inB_of c
      rw [nI_clamp (by omega)]
      refine bq ⟨b, rfl, ⟨_, hb5, wq_ci.eq (by decide) (c_canB hb hB (by omega)) ⟨fun c2 => ?_, fun c2 => ?_⟩⟩⟩
      · rw [b2i_0] at c2
        rw [c2]
        exact u_well k (by decide) fun h' => pk_of
      · rw [b2i_0, Bool.not_eq_false] at c2
        rw [c2]
        exact u_well k (by decide) fun h' => pk_of
theorem c_forced (k : cd G h Z x D) (dk : dok D) (v : Int32) : wq_C G l 4 0 0 mX1_forced [.ref x, .int v] h (wq_qi (pk G Z x h (dk_t D (qK D 1 fun K => if inB v K.2.2.1.1 then (zs_forced K.2.2.1 v.toNatClampNeg).2 else 1)) (qK D (-1) fun K => if inB v K.2.2.1.1 then (zs_forced K.2.2.1 v.toNatClampNeg).1 else -1))) := by
  cases e : D.2.2.2.2.2 with
  | none =>
    rw [qK_n e, qK_n e]
    exact wq_C.of pn_X1 (Nat.le_of_ble_eq_true rfl) rfl (vX1_forced_0 (k.n e (none_k (u_refused k (by decide) (by decide) fun h' => pk_of))))
  | some K =>
    rw [qK_k e, qK_k e]
    obtain ⟨fs, b, hx, h5, hb⟩ := k.kb e
    have hB := (dk.2.2 K e).2.1
    have h99 := hB.1
    have h9 := pow_9 hB.1
    have l8 := pow_9 hB.2.1
    have bq : ∀ {F : Option Nat → Prop}, F (some b) → wq_gQ h x [(0, 5)] F := fun q => gQ1 hx (x := some b) h5 q
    obtain ⟨-, t0, l0, r0, u0, hb5, -⟩ := id hb
    refine wq_C.of pn_X1 (Nat.le_of_ble_eq_true rfl) rfl (vX1_forced_0 (bq (some_k (bq ⟨b, rfl, bk_pt hb (wq_ci.eq (by decide) (c_inB v (by omega)) ⟨fun c => ?_, fun c => ?_⟩)⟩))))
    · rw [b2i_0, Bool.not_eq_false] at c
      rw [c]
      obtain ⟨i, hi, rfl⟩ := inB_of c
      rw [nI_clamp (by omega), if_pos rfl, if_pos rfl]
      generalize hpa : (fun v => zs_all K.2.2.1 v && !v.testBit i) = pa
      generalize hpb : (fun v => zs_all K.2.2.1 v && v.testBit i) = pb
      have zf : zs_forced K.2.2.1 i = if cnt pa (2 ^ K.2.2.1.1) + cnt pb (2 ^ K.2.2.1.1) = 0 then (-1, 6) else if cnt pa (2 ^ K.2.2.1.1) = 0 then (1, 0) else if cnt pb (2 ^ K.2.2.1.1) = 0 then (0, 0) else (-2, 0) := by
        rw [zs_forced, hpa, hpb]
      refine down (P := fun j => wq_T G l 4 mX1_forced (wq_qi (pk G Z x h (dk_t D (zs_forced K.2.2.1 i).2) (zs_forced K.2.2.1 i).1)) 37 [some (.ref x), some (.int (nI i)), some (.int (b2i (decide (cnt pa j ≠ 0)))), some (.int (b2i (decide (cnt pb j ≠ 0)))), some (.int (nI j))] [] h 0 0) (n := 2 ^ K.2.2.1.1) ?_ ?_
      · refine vX1_forced_37 (bq ⟨b, rfl, bk_pt hb ?_⟩)
        rw [nI_shl (by omega), zf]
        refine ⟨fun _ => ?_, fun c => absurd (Int32.le_refl _) c⟩
        have wl : ∀ w, pk G Z x h (dk_t D 0) w = pk G Z x h (dk_t D 0) w := fun _ => rfl
        by_cases c1 : cnt pa (2 ^ K.2.2.1.1) = 0
        · by_cases c2 : cnt pb (2 ^ K.2.2.1.1) = 0
          · simp only [c1, c2, ne_eq, not_true_eq_false, decide_false, Nat.add_zero, if_true]
            exact ⟨fun c => absurd rfl c, fun _ => ⟨fun c => absurd rfl c, fun _ => u_refused k (by decide) (by decide) fun h' => pk_of⟩⟩
          · have c3 : ¬ cnt pa (2 ^ K.2.2.1.1) + cnt pb (2 ^ K.2.2.1.1) = 0 := by omega
            rw [if_neg c3, if_pos c1]
            simp only [c1, c2, ne_eq, not_true_eq_false, not_false_eq_true, decide_false, decide_true]
            exact ⟨fun c => absurd rfl c, fun _ => ⟨fun _ => ⟨fun _ => ⟨fun c => absurd c (by decide), fun _ => u_well k (by decide) fun h' => pk_of⟩, fun c => absurd rfl c⟩, fun c => absurd c (by decide)⟩⟩
        · by_cases c2 : cnt pb (2 ^ K.2.2.1.1) = 0
          · have c3 : ¬ cnt pa (2 ^ K.2.2.1.1) + cnt pb (2 ^ K.2.2.1.1) = 0 := by omega
            rw [if_neg c3, if_neg c1, if_pos c2]
            simp only [c1, c2, ne_eq, not_true_eq_false, not_false_eq_true, decide_false, decide_true]
            exact ⟨fun _ => ⟨fun c => absurd c (by decide), fun _ => ⟨fun _ => ⟨fun _ => u_well k (by decide) fun h' => pk_of, fun c => absurd rfl c⟩, fun c => absurd rfl c⟩⟩, fun c => absurd c (by decide)⟩
          · have c3 : ¬ cnt pa (2 ^ K.2.2.1.1) + cnt pb (2 ^ K.2.2.1.1) = 0 := by omega
            rw [if_neg c3, if_neg c1, if_neg c2]
            simp only [c1, c2, ne_eq, not_false_eq_true, decide_true]
            exact ⟨fun _ => ⟨fun c => absurd c (by decide), fun _ => ⟨fun c => absurd c (by decide), fun _ => u_well k (by decide) fun h' => pk_of⟩⟩, fun c => absurd c (by decide)⟩
      · intro j hj ih
        refine vX1_forced_37 (bq ⟨b, rfl, bk_pt hb ?_⟩)
        rw [nI_shl (by omega)]
        refine ⟨fun c => ?_, fun _ => bq ⟨_, hx, wq_ci.eq (by decide) (c_allLines hx h5 hb hB) ⟨b, rfl, ⟨_, hb5, wq_ci.eq (by decide) (c_canv hb hB (by omega) (v := j) (by omega)) ?_⟩⟩⟩⟩
        · rw [nI_leI (by omega) (by omega)] at c
          omega
        · rw [canv_all]
          refine ⟨fun c => ?_, fun c => ?_⟩
          · rw [b2i_0, Bool.not_eq_false] at c
            -- the second half, what the first is known to be
            have half : wq_T G l 4 mX1_forced (wq_qi (pk G Z x h (dk_t D (zs_forced K.2.2.1 i).2) (zs_forced K.2.2.1 i).1)) 88 [some (.ref x), some (.int (nI i)), none, some (.int (b2i (decide (cnt pb j ≠ 0)))), some (.int (nI j))] [.int (b2i (decide (cnt pa (j + 1) ≠ 0)))] h 0 0 := by
              refine vX1_forced_88 ⟨fun c2 => ?_, fun c2 => wq_ci.eq (by decide) (c_has (by omega) (by omega)) ⟨fun c3 => ?_, fun c3 => ?_⟩⟩
              · rw [b2i_0, decide_eq_false_iff_not, Decidable.not_not] at c2
                have c4 : cnt pb (j + 1) ≠ 0 := by rw [cnt]; omega
                rw [nI_1]
                simp only [c4, ne_eq, not_false_eq_true, decide_true] at ih
                exact ih
              · rw [b2i_0, decide_eq_false_iff_not, Decidable.not_not] at c2
                rw [b2i_0] at c3
                have c4 : cnt pb (j + 1) = 0 := by rw [cnt, ← hpb]; rw [← hpb] at c2; simp [c2, c3]
                rw [nI_1]
                simp only [c4, ne_eq, not_true_eq_false, decide_false] at ih
                exact ih
              · rw [b2i_0, Bool.not_eq_false] at c3
                have c4 : cnt pb (j + 1) ≠ 0 := by rw [cnt, ← hpb]; simp [c, c3]
                rw [nI_1]
                simp only [c4, ne_eq, not_false_eq_true, decide_true] at ih
                exact ih
            refine ⟨fun c2 => ?_, fun c2 => wq_ci.eq (by decide) (c_has (by omega) (by omega)) ⟨fun c3 => ?_, fun c3 => ?_⟩⟩
            · rw [b2i_0, decide_eq_false_iff_not, Decidable.not_not] at c2
              have c4 : cnt pa (j + 1) ≠ 0 := by rw [cnt]; omega
              simp only [c4, ne_eq, not_false_eq_true, decide_true] at half
              exact half
            · rw [b2i_0, decide_eq_false_iff_not, Decidable.not_not] at c2
              rw [b2i_0, Bool.not_eq_false] at c3
              have c4 : cnt pa (j + 1) = 0 := by rw [cnt, ← hpa]; rw [← hpa] at c2; simp [c2, c3]
              simp only [c4, ne_eq, not_true_eq_false, decide_false] at half
              exact half
            · rw [b2i_0] at c3
              have c4 : cnt pa (j + 1) ≠ 0 := by rw [cnt, ← hpa]; simp [c, c3]
              simp only [c4, ne_eq, not_false_eq_true, decide_true] at half
              exact half
          · rw [b2i_0] at c
            have c4 : cnt pa (j + 1) = cnt pa j := by rw [cnt, ← hpa]; simp [c]
            have c5 : cnt pb (j + 1) = cnt pb j := by rw [cnt, ← hpb]; simp [c]
            rw [c4, c5] at ih
            rw [nI_1]
            exact ih
    · rw [b2i_0] at c
      rw [c]
      exact u_refused k (by decide) (by decide) fun h' => pk_of
end CP10
