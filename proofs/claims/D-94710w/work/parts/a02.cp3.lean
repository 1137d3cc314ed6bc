/-! CONTRACTS of the component: tables that are read, second: hangs, isCycle, excess, wins, pays, disturbed -/
set_option maxRecDepth 100000
/-- looks that hang together, and the sets that are left -/
def hg (T : zs_T) (set F R : Nat) : Prop := F < 64 ∧ R < 2 ^ T.length ∧ (∀ k, R.testBit k = true → set.testBit k = true) ∧ (F = 0 → R = set) ∧ (∀ k, k < T.length → set.testBit k = true → R.testBit k = false → F.testBit (cy_a T k) = true ∧ F.testBit (cy_b T k) = true) ∧ (F ≠ 0 → ∃ t, t < T.length ∧ set.testBit t = true ∧ cy_i T set t F)
theorem o_bit (T : zs_T) (k i : Nat) : (cy_o T k).testBit i = (decide (i = cy_a T k) || decide (i = cy_b T k)) := tb2 _ _ _
theorem lk_o {T : zs_T} {k : Nat} (h : (zs_at T k).2.1 ≠ none) : zs_lk (zs_at T k) = cy_o T k := by
  unfold zs_lk cy_o cy_a cy_b
  cases q : (zs_at T k).2.1 with
  | none => exact absurd q h
  | some b => rfl
theorem hg_add {L N : Nat} {T : zs_T} (hT : zs_ok L N T) (hL : L ≤ 6) {set F R k : Nat} (h : hg T set F R) (hk : k < T.length) (hR : R.testBit k = true) (hF : F = 0 ∨ F &&& cy_o T k ≠ 0) : hg T set (F ||| cy_o T k) (R ^^^ 2 ^ k) := by
  obtain ⟨h1, h2, h3, h4, h5, h6⟩ := h
  have ho := cy_o_lt hT hL hk
  have hset := h3 k hR
  have oa : (cy_o T k).testBit (cy_a T k) = true := by rw [o_bit]; simp
  have ob : (cy_o T k).testBit (cy_b T k) = true := by rw [o_bit]; simp
  refine ⟨or_64 h1 ho, xor_lt h2 hk, fun j hj => ?_, fun e => ?_, fun j hj hs hr => ?_, fun _ => ?_⟩
  · rw [xor_bit] at hj
    by_cases e : k = j
    · rw [← e, hR] at hj; simp at hj
    · simp [e] at hj; exact h3 j hj
  · have := congrArg (fun x => x.testBit (cy_a T k)) e
    simp [Nat.testBit_or, oa] at this
  · rw [Nat.testBit_or, Nat.testBit_or]
    by_cases e : j = k
    · rw [e, oa, ob]; simp
    · rw [xor_bit] at hr
      have e2 : ¬ k = j := fun q => e q.symm
      simp [e2] at hr
      have := h5 j hj hs hr
      rw [this.1, this.2]; simp
  · rcases Nat.eq_zero_or_pos F with q | q
    · refine ⟨k, hk, hset, or_64 h1 ho, by rw [Nat.testBit_or, oa, Bool.or_true], fun E hE ha i hi => ?_⟩
      rw [q, Nat.zero_or, o_bit] at hi
      have := hE k hk hset (Or.inl ha)
      simp only [Bool.or_eq_true, decide_eq_true_eq] at hi
      rcases hi with hi | hi
      · rw [hi]; exact this.1
      · rw [hi]; exact this.2
    · obtain ⟨t, g1, g2, g3, g4, g5⟩ := h6 (by omega)
      refine ⟨t, g1, g2, or_64 h1 ho, by rw [Nat.testBit_or, g4, Bool.true_or], fun E hE ha i hi => ?_⟩
      have hE2 := g5 E hE ha
      rw [Nat.testBit_or, Bool.or_eq_true] at hi
      rcases hi with hi | hi
      · exact hE2 i hi
      · have hx : F &&& cy_o T k ≠ 0 := by
          rcases hF with z | z
          · omega
          · exact z
        have hy : E (cy_a T k) ∨ E (cy_b T k) := by
          rw [Nat.and_comm] at hx
          by_cases z : F.testBit (cy_a T k) = true
          · exact Or.inl (hE2 _ z)
          · by_cases z2 : F.testBit (cy_b T k) = true
            · exact Or.inr (hE2 _ z2)
            · exact absurd ((bo_and _ _ _).mpr ⟨by simpa using z, by simpa using z2⟩) hx
        have := hE k hk hset hy
        rw [o_bit] at hi
        simp only [Bool.or_eq_true, decide_eq_true_eq] at hi
        rcases hi with hi | hi
        · rw [hi]; exact this.1
        · rw [hi]; exact this.2
theorem hg_end {T : zs_T} {set F R : Nat} (h : hg T set F R) (hj : ∀ j, j < T.length → R.testBit j = true → F ≠ 0 ∧ F &&& cy_o T j = 0) (hne : ∃ k, k < T.length ∧ set.testBit k = true) : R = 0 ↔ con T.length (fun k => set.testBit k) (cy_a T) (cy_b T) := by
  obtain ⟨h1, h2, h3, h4, h5, h6⟩ := h
  have hF : F ≠ 0 := by
    intro q
    obtain ⟨k, hk, hs⟩ := hne
    exact (hj k hk (by rw [h4 q]; exact hs)).1 q
  obtain ⟨t, g1, g2, g3, g4, g5⟩ := h6 hF
  have hc : cl T.length (fun k => set.testBit k) (cy_a T) (cy_b T) (fun i => F.testBit i = true) := by
    intro k hk hs ho
    by_cases q : R.testBit k = true
    · have := (hj k hk q).2
      rw [Nat.and_comm] at this
      have := (bo_and _ _ _).mp this
      have ho : F.testBit (cy_a T k) = true ∨ F.testBit (cy_b T k) = true := ho
      rw [this.1, this.2] at ho
      simp at ho
    · exact h5 k hk hs (by simpa using q)
  rw [← con_iff hc g1 g2 g4 g5]
  constructor
  · intro q k hk hs
    exact (h5 k hk hs (by rw [q, Nat.zero_testBit])).1
  · intro q
    refine Nat.eq_of_testBit_eq fun j => ?_
    rw [Nat.zero_testBit]
    cases z : R.testBit j with
    | false => rfl
    | true =>
      have hjl : j < T.length := by
        rcases Nat.lt_or_ge j T.length with y | y
        · exact y
        · rw [Nat.testBit_lt_two_pow (Nat.lt_of_lt_of_le h2 (Nat.pow_le_pow_right (by omega) y))] at z; cases z
      have h8 := (hj j hjl z).2
      rw [Nat.and_comm] at h8
      have h9 := ((bo_and _ _ _).mp h8).1
      rw [q j hjl (h3 j z)] at h9
      cases h9
theorem hg_cnt {R k n : Nat} (hk : k < n) (hR : R.testBit k = true) : cnt (fun i => (R ^^^ 2 ^ k).testBit i) n + 1 = cnt (fun i => R.testBit i) n := by
  rw [cnt_one hk hR]
  congr 1
  refine cnt_cong fun i _ => ?_
  rw [xor_bit]
  by_cases e : k = i
  · rw [← e, hR]; simp
  · have : i ≠ k := fun q => e q.symm
    simp [e, this]
theorem bc_1 : ∀ a, a < 6 → bc (2 ^ a) 31 = 1 := by decide +kernel
theorem bc_2 : ∀ a, a < 6 → ∀ b, b < 6 → b ≠ a → bc (2 ^ a ||| 2 ^ b) 31 = 2 := by decide +kernel
section CP3
variable {G : wq_G} {l : Launch} {d C S : Nat} {h : wq_H} {t li ba : Nat} {sa ta ca : Nat → Nat} {T : zs_T} {L N : Nat}
theorem lk_64 (hT : zs_ok L N T) (hL : L ≤ 6) {k : Nat} (hk : k < T.length) : zs_lk (zs_at T k) < 64 := by
  have o6 := ok6 hT hL hk
  unfold zs_lk
  cases q : (zs_at T k).2.1 with
  | none =>
    show 2 ^ _ < 2 ^ 6
    exact Nat.pow_lt_pow_right (by omega) o6.1
  | some b => exact bo_lt o6.1 (o6.2 b q)
theorem c_hangs (ht : tb_at G h t li ba sa ta ca T) (hT : zs_ok L N T) (hL : L ≤ 6) {set : Nat} (hs : set < 2 ^ T.length) (h2 : ∀ k, k < T.length → set.testBit k = true → (zs_at T k).2.1 ≠ none) (hne : ∃ k, k < T.length ∧ set.testBit k = true) : wq_C G l 4 0 0 mX7_hangs [.ref t, .int (nI set)] h (wq_qi fun r h' => r = b2i (pB (con T.length (fun k => set.testBit k) (cy_a T) (cy_b T))) ∧ h' = h) := by
  have h8 := hT.1
  have hp := pow_9 h8
  refine wq_C.of pn_X7 (Nat.le_of_ble_eq_true rfl) rfl (vX7_hangs_0 ?_)
  generalize hK : (fun (r : Int32) (h' : wq_H) => r = b2i (pB (con T.length (fun k => set.testBit k) (cy_a T) (cy_b T))) ∧ h' = h) = K
  have p18 : ∀ N F R, hg T set F R → cnt (fun i => R.testBit i) 8 = N → wq_T G l 4 mX7_hangs (wq_qi K) 18 [some (.ref t), none, some (.int (nI F)), some (.int (nI R)), some (.int (nI 0)), some (.int (nI 0))] [] h 0 0 := by
    intro N
    induction N using Nat.strongRecOn with
    | _ N ih =>
      have step : ∀ n k F R m, k + n = T.length → hg T set F R → (m = 0 ∨ m = 1) → (m = 0 → cnt (fun i => R.testBit i) 8 = N ∧ ∀ j, j < k → R.testBit j = true → F ≠ 0 ∧ F &&& cy_o T j = 0) → (m = 1 → cnt (fun i => R.testBit i) 8 < N) → wq_T G l 4 mX7_hangs (wq_qi K) 18 [some (.ref t), none, some (.int (nI F)), some (.int (nI R)), some (.int (nI m)), some (.int (nI k))] [] h 0 0 := by
        intro n
        induction n with
        | zero =>
          intro k F R m hk hg0 hm m0 m1
          obtain rfl : k = T.length := by omega
          have hR : R < 2 ^ 9 := Nat.lt_of_lt_of_le hg0.2.1 (Nat.le_trans hp (by decide))
          refine vX7_hangs_18 (u_size ht (by decide) ⟨fun _ => vX7_hangs_7 ⟨fun c => ?_, fun c => ?_⟩, fun c => absurd (Int32.le_refl _) c⟩)
          · have hm0 : m = 0 := by rw [nI_lit 0, nI_eq (by omega) (by omega)] at c; exact c
            have := hg_end hg0 (m0 hm0).2 hne
            subst hK
            refine ⟨fun c2 => ⟨?_, rfl⟩, fun c2 => ⟨?_, rfl⟩⟩
            · rw [nI_lit 0, nI_eq (by omega) (by omega)] at c2
              rw [pB_f.mpr (fun z => c2 (this.mpr z))]; rfl
            · rw [nI_lit 0, nI_eq (by omega) (by omega)] at c2
              rw [pB_t.mpr (this.mp c2)]; rfl
          · have hm1 : m = 1 := by
              rw [nI_lit 0, nI_eq (by omega) (by omega)] at c; omega
            exact ih _ (m1 hm1) F R hg0 rfl
        | succ n ihn =>
          intro k F R m hk hg0 hm m0 m1
          have hkl : k < T.length := by omega
          have hR : R < 2 ^ 9 := Nat.lt_of_lt_of_le hg0.2.1 (Nat.le_trans hp (by decide))
          have o6 := ok6 hT hL hkl
          have l64 := lk_64 hT hL hkl
          have ok := ht.2.2 k hkl
          have take : R.testBit k = true → (F = 0 ∨ F &&& cy_o T k ≠ 0) → wq_T G l 4 mX7_hangs (wq_qi K) 18 [some (.ref t), none, some (.int (nI F ||| nI (zs_lk (zs_at T k)))), some (.int (nI R &&& ((1 <<< (nI k &&& 31)) ^^^ -1))), some (.int 1), some (.int (nI k + 1))] [] h 0 0 := by
            intro hb hF
            have e1 := clr_bit3 (x := R) (k := k) (by omega) (by omega) hb
            rw [nI_shl (by omega), e1, nI_or, lk_o (h2 k hkl (hg0.2.2.1 k hb)), nI_1]
            have hc := hg_cnt (n := 8) (by omega) hb
            refine ihn (k + 1) _ _ 1 (by omega) (hg_add hT hL hg0 hkl hb hF) (Or.inr rfl) (fun z => by omega) (fun _ => ?_)
            rcases hm with z | z
            · have := (m0 z).1; omega
            · have := m1 z; omega
          have skip : (R.testBit k = true → F ≠ 0 ∧ F &&& cy_o T k = 0) → wq_T G l 4 mX7_hangs (wq_qi K) 18 [some (.ref t), none, some (.int (nI F)), some (.int (nI R)), some (.int (nI m)), some (.int (nI k + 1))] [] h 0 0 := by
            intro hb
            rw [nI_1]
            refine ihn (k + 1) F R m (by omega) hg0 hm (fun z => ⟨(m0 z).1, fun j hj hb2 => ?_⟩) m1
            by_cases e : j = k
            · rw [e] at hb2 ⊢; exact hb hb2
            · exact (m0 z).2 j (by omega) hb2
          have hF : F < 64 := hg0.1
          refine vX7_hangs_18 (u_size ht (by decide) ⟨fun c => ?_, fun _ => wq_ci.eq (by decide) (c_has (by omega) (by omega)) ⟨fun c => ?_, fun c => ⟨fun c2 => ?_, fun c2 => ?_⟩⟩⟩)
          · rw [nI_leI (by omega) (by omega)] at c
            omega
          · rw [b2i_0] at c
            exact skip (fun z => by rw [c] at z; cases z)
          · rw [b2i_0, Bool.not_eq_false] at c
            rw [nI_lit 0, nI_eq (by omega) (by omega)] at c2
            exact u_set ht hkl (by decide) ⟨_, rfl, v_looks ok o6.1 o6.2 (by decide) (take c (Or.inl c2))⟩
          · rw [b2i_0, Bool.not_eq_false] at c
            rw [nI_lit 0, nI_eq (by omega) (by omega)] at c2
            have e3 := lk_o (h2 k hkl (hg0.2.2.1 k c))
            refine u_set ht hkl (by decide) ⟨_, rfl, v_looks ok o6.1 o6.2 (by decide) ⟨fun c3 => u_set ht hkl (by decide) ⟨_, rfl, v_looks ok o6.1 o6.2 (by decide) (take c (Or.inr fun z => c3 ?_))⟩, fun c3 => skip fun _ => ⟨c2, ?_⟩⟩⟩
            · rw [nI_and, e3, z]; rfl
            · rw [nI_and, e3, nI_lit 0, nI_eq (Nat.lt_of_le_of_lt Nat.and_le_left (by omega)) (by omega)] at c3
              exact c3
      intro F R hg0 hN
      exact step T.length 0 F R 0 (by omega) hg0 (Or.inl rfl) (fun _ => ⟨hN, fun j hj => by omega⟩) (fun z => by omega)
  have hg0 : hg T set 0 set := ⟨by omega, hs, fun _ z => z, fun _ => rfl, fun k hk q1 q2 => (by rw [q1] at q2; cases q2), fun z => absurd rfl z⟩
  refine vX7_hangs_7 ⟨fun c => absurd c (by decide), fun _ => p18 _ 0 set hg0 rfl⟩
theorem c_isCycle (ht : tb_at G h t li ba sa ta ca T) (hT : zs_ok L N T) (hL : L ≤ 6) {x : Nat} (hx : x < 2 ^ 31) : wq_C G l 5 0 0 mX7_isCycle [.ref t, .int (nI x)] h (wq_qi fun r h' => r = b2i (decide (x < 2 ^ T.length) && zs_cyc T x) ∧ h' = h) := by
  have h8 := hT.1
  have hp := pow_9 h8
  generalize hK : (fun (r : Int32) (h' : wq_H) => r = b2i (decide (x < 2 ^ T.length) && zs_cyc T x) ∧ h' = h) = K
  refine wq_C.of pn_X7 (Nat.le_of_ble_eq_true rfl) rfl (vX7_isCycle_0 (wq_ci.eq (by decide) (c_bits hx) ⟨fun c => ?_, fun c => u_size ht (by decide) ⟨fun c2 => ?_, fun c2 => ?_⟩⟩))
  · have hb := bc_le x 31
    rw [nI_lit 3, nI_ltI (by omega) (by omega)] at c
    subst hK
    refine ⟨?_, rfl⟩
    by_cases q : x < 2 ^ T.length
    · have e : bc x 20 = bc x 31 := by
        rw [bc_small (n := 9) (m := 20) (by omega) (by omega), bc_small (n := 9) (m := 31) (by omega) (by omega)]
      simp [zs_cyc, e, show ¬ 3 ≤ bc x 31 by omega, b2i]
    · simp [q, b2i]
  · rw [nI_shl (by omega), nI_ltI (by omega) (by omega)] at c2
    have hb := bc_le x 31
    have e : bc x 20 = bc x 31 := by
      rw [bc_small (n := 9) (m := 20) (by omega) (by omega), bc_small (n := 9) (m := 31) (by omega) (by omega)]
    have h3 : 3 ≤ bc x 20 := by
      rw [nI_lit 3, nI_ltI (by omega) (by omega)] at c
      omega
    have z0 : cy_f T x T.length = none → K 0 h := by
      intro q
      subst hK
      exact ⟨by simp [zs_cyc, q, b2i], rfl⟩
    refine down (P := fun k => ∀ q, cy_f T x k = some q → wq_T G l 5 mX7_isCycle (wq_qi K) 27 [some (.ref t), some (.int (nI x)), some (.int (nI q.1)), some (.int (nI q.2)), some (.int (nI k)), none] [] h 0 0) (n := T.length) ?_ ?_ (0, 0) rfl
    · intro q hq
      have hb1 := cy_lt hT hL T.length (Nat.le_refl _) q hq
      refine vX7_isCycle_27 (u_size ht (by decide) ⟨fun _ => ⟨fun c => ?_, fun c => ?_⟩, fun c => absurd (Int32.le_refl _) c⟩)
      · rw [nI_eq (by omega) (by omega)] at c
        subst hK
        exact ⟨by simp [zs_cyc, hq, c, b2i], rfl⟩
      · rw [nI_eq (by omega) (by omega)] at c
        have g1 := (cy_some T.length q hq).1
        have g2 : ∃ k, k < T.length ∧ x.testBit k = true := by
          by_cases z : ∃ k, k < T.length ∧ x.testBit k = true
          · exact z
          · have : bc x 20 = 0 := by
              rw [bc_small c2 (by omega), bc_cnt]
              have : cnt (fun k => x.testBit k) T.length = cnt (fun _ => false) T.length := cnt_cong fun k hk => by
                cases y : x.testBit k with
                | false => rfl
                | true => exact absurd ⟨k, hk, y⟩ z
              rw [this]
              generalize T.length = n
              induction n with
              | zero => rfl
              | succ n ih => simp [cnt, ih]
            omega
        refine ⟨_, ht.1, wq_ci.eq (by decide) (c_hangs ht hT hL c2 g1 g2) ⟨fun c3 => ?_, fun c3 => ?_⟩⟩
        · rw [b2i_0] at c3
          subst hK
          exact ⟨by simp [zs_cyc, hq, c, c3, b2i], rfl⟩
        · rw [b2i_0, Bool.not_eq_false] at c3
          subst hK
          exact ⟨by simp [zs_cyc, hq, c, c2, h3, c3, b2i], rfl⟩
    · intro k hk ih q hq
      have hb1 := cy_lt hT hL k (by omega) q hq
      have o6 := ok6 hT hL hk
      have l64 := lk_64 hT hL hk
      have hst : cy_f T x (k + 1) = none → K 0 h := fun z => z0 (by
        have := cy_none z (T.length - (k + 1))
        rwa [show k + 1 + (T.length - (k + 1)) = T.length by omega] at this)
      refine vX7_isCycle_27 (u_size ht (by decide) ⟨fun c => ?_, fun _ => wq_ci.eq (by decide) (c_has hx (by omega)) ⟨fun c => u_set ht hk (by decide) ⟨_, rfl, v_looks (ht.2.2 k hk) o6.1 o6.2 (by decide) (wq_ci.eq (by decide) (c_bits (by omega)) ⟨fun c3 => hst ?_, fun c3 => ⟨fun c4 => ?_, fun c4 => hst ?_⟩⟩)⟩, fun c => ?_⟩⟩)
      · rw [nI_leI (by omega) (by omega)] at c
        omega
      · rw [b2i_0, Bool.not_eq_false] at c
        have : (zs_at T k).2.1 = none := by
          cases y : (zs_at T k).2.1 with
          | none => rfl
          | some b =>
            have hb := ((ok_get hT hk).2.1 b y).2
            unfold zs_lk at c3
            rw [y] at c3
            simp only at c3
            rw [bc_2 _ o6.1 b (o6.2 b y) hb] at c3
            exact absurd c3 (by decide)
        simp only [cy_f, hq, c, this, if_true, true_or]
      · rw [b2i_0, Bool.not_eq_false] at c
        have hn : (zs_at T k).2.1 ≠ none := by
          intro y
          unfold zs_lk at c3
          rw [y] at c3
          simp only at c3
          rw [bc_1 _ o6.1] at c3
          exact c3 (by decide)
        rw [lk_o hn] at c4 ⊢
        rw [nI_and, nI_lit 0, nI_eq (Nat.lt_of_le_of_lt Nat.and_le_right (by omega)) (by omega), Nat.and_comm] at c4
        rw [nI_or, nI_and, nI_or, nI_1]
        refine ih (q.1 ||| cy_o T k, q.2 ||| (q.1 &&& cy_o T k)) ?_
        simp only [cy_f, hq, c, if_true]
        rw [if_neg (by rintro (z | z); exact hn z; exact z c4)]
      · rw [b2i_0, Bool.not_eq_false] at c
        have hn : (zs_at T k).2.1 ≠ none := by
          intro y
          unfold zs_lk at c3
          rw [y] at c3
          simp only at c3
          rw [bc_1 _ o6.1] at c3
          exact c3 (by decide)
        rw [lk_o hn, nI_and, nI_lit 0, nI_eq (Nat.lt_of_le_of_lt Nat.and_le_right (by omega)) (by omega), Nat.and_comm] at c4
        simp only [cy_f, hq, c, if_true]
        rw [if_pos (Or.inr c4)]
      · rw [b2i_0] at c
        rw [nI_1]
        refine ih q ?_
        simp [cy_f, hq, c]
  · rw [nI_shl (by omega), nI_ltI (by omega) (by omega)] at c2
    subst hK
    exact ⟨by simp [c2, b2i], rfl⟩
theorem c_abs {z : Int} (h1 : -2147483648 < z) (h2 : z < 2147483648) : wq_C G l 0 0 0 mJ8_abs [.int (iI z)] h (wq_qi fun r h' => r = iI (if z < 0 then -z else z) ∧ h' = h) := by
  refine m_eq (m_abs (iI z)) ?_
  by_cases c : 0 ≤ iI z
  · rw [if_pos c]
    rw [iI_lit 0, iI_le (by omega) (by omega) (by omega) (by omega)] at c
    rw [if_neg (by omega)]
  · rw [if_neg c]
    rw [iI_lit 0, iI_le (by omega) (by omega) (by omega) (by omega)] at c
    rw [if_pos (by omega), iI_neg]
theorem c_min {x y : Int} (h1 : -2147483648 ≤ x) (h2 : x < 2147483648) (h3 : -2147483648 ≤ y) (h4 : y < 2147483648) : wq_C G l 0 0 0 mJ8_min [.int (iI x), .int (iI y)] h (wq_qi fun r h' => r = iI (if y < x then y else x) ∧ h' = h) := by
  refine m_eq (m_min (iI x) (iI y)) ?_
  by_cases c : iI y < iI x
  · rw [if_pos c]
    rw [iI_lt h3 h4 h1 h2] at c
    rw [if_pos c]
  · rw [if_neg c]
    rw [iI_lt h3 h4 h1 h2] at c
    rw [if_neg c]
theorem ab_s_le {p : Nat → Bool} {v : Nat → Int} : ∀ n, (∀ k, k < n → p k = true → -60 ≤ v k ∧ v k ≤ 60) → (-60 : Int) * n ≤ ab_s p v n ∧ ab_s p v n ≤ 60 * n := by
  intro n
  induction n with
  | zero => intro _; simp [ab_s]
  | succ n ih =>
    intro hv
    have h1 := ih fun k hk => hv k (by omega)
    have h2 := hv n (by omega)
    simp only [ab_s]
    split
    · rename_i q
      have := h2 q
      split <;> omega
    · omega
theorem ab_m_le {p : Nat → Bool} {v : Nat → Int} : ∀ n, (∀ k, k < n → p k = true → -60 ≤ v k ∧ v k ≤ 60) → (0 : Int) ≤ ab_m p v n ∧ ab_m p v n ≤ 2147483647 := by
  intro n
  induction n with
  | zero => intro _; simp [ab_m]
  | succ n ih =>
    intro hv
    have h1 := ih fun k hk => hv k (by omega)
    have h2 := hv n (by omega)
    simp only [ab_m]
    split
    · rename_i q
      have := h2 q
      split <;> split <;> omega
    · exact h1
theorem c_excess (ht : tb_at G h t li ba sa ta ca T) (hT : zs_ok L N T) (hL : L ≤ 6) (hN : N ≤ 60) {set : Nat} (hs : set < 2 ^ T.length) (h2 : ∀ k, k < T.length → set.testBit k = true → (zs_at T k).2.1 ≠ none) : wq_C G l 5 0 0 mX7_excess [.ref t, .int (nI set), .int (nI N)] h (wq_qi fun r h' => r = iI (zs_exc T N set) ∧ h' = h) := by
  have h8 := hT.1
  have hp := pow_9 h8
  have hv : ∀ k, k < T.length → set.testBit k = true → -60 ≤ zs_sm T k ∧ zs_sm T k ≤ 60 := fun k hk hb => zs_sm_le hT hN hk (h2 k hk hb)
  generalize hK : (fun (r : Int32) (h' : wq_H) => r = iI (zs_exc T N set) ∧ h' = h) = K
  refine wq_C.of pn_X7 (Nat.le_of_ble_eq_true rfl) rfl (vX7_excess_0 ?_)
  refine down (P := fun k => wq_T G l 5 mX7_excess (wq_qi K) 12 [some (.ref t), some (.int (nI set)), some (.int (nI N)), some (.int (iI (ab_s (fun k => set.testBit k) (zs_sm T) k))), some (.int (iI (ab_m (fun k => set.testBit k) (zs_sm T) k))), some (.int (nI (ab_t (fun k => set.testBit k) (zs_sm T) k))), some (.int (nI k)), none] [] h 0 0) (n := T.length) ?_ ?_
  · have e20 : bc set 31 = bc set 20 := by
      rw [bc_small (n := 9) (m := 20) (by omega) (by omega), bc_small (n := 9) (m := 31) (by omega) (by omega)]
    have ht2 : ab_t (fun k => set.testBit k) (zs_sm T) T.length ≤ T.length := cnt_le _ _
    have fin : ∀ w : Int, iI (ab_s (fun k => set.testBit k) (zs_sm T) T.length) - iI w - nI N * (nI (bc set 31) - 2) = iI (ab_s (fun k => set.testBit k) (zs_sm T) T.length - w - N * ((bc set 20 : Int) - 2)) := by
      intro w
      rw [e20, nI_iI (bc set 20), iI_lit 2, iI_sub, iI_sub, iI_mulN, iI_sub]
      rfl
    have e2 : ∀ w : Int, (2 : Int32) * iI w = iI (2 * w) := fun w => by rw [iI_lit 2, iI_mul]; rfl
    refine vX7_excess_12 (u_size ht (by decide) ⟨fun _ => ⟨fun c => wq_ci.eq (by decide) (c_bits (by omega)) ?_, fun c => wq_ci.eq (by decide) (c_bits (by omega)) ?_⟩, fun c => absurd (Int32.le_refl _) c⟩)
    · rw [nI_mod2 (by omega), nI_lit 1, nI_eq (by omega) (by omega)] at c
      subst hK
      refine ⟨?_, rfl⟩
      rw [e2, fin, zs_exc, if_neg c]
    · rw [nI_mod2 (by omega), nI_lit 1, nI_eq (by omega) (by omega)] at c
      subst hK
      refine ⟨?_, rfl⟩
      rw [iI_lit 0, fin, zs_exc, if_pos c]
      rfl
  · intro k hk ih
    have hs1 := ab_s_le (p := fun k => set.testBit k) (v := zs_sm T) k fun j hj => hv j (by omega)
    have hm1 := ab_m_le (p := fun k => set.testBit k) (v := zs_sm T) k fun j hj => hv j (by omega)
    have e2 : ∀ w : Int, (2 : Int32) * iI w = iI (2 * w) := fun w => by rw [iI_lit 2, iI_mul]; rfl
    refine vX7_excess_12 (u_size ht (by decide) ⟨fun c => ?_, fun _ => wq_ci.eq (by decide) (c_has (by omega) (by omega)) ⟨fun c => ?_, fun c => ?_⟩⟩)
    · rw [nI_leI (by omega) (by omega)] at c
      omega
    · rw [b2i_0, Bool.not_eq_false] at c
      have b := hv k hk c
      have es : zs_sam (zs_at T k) = zs_sm T k := by
        unfold zs_sam zs_sm
        cases q : (zs_at T k).2.1 with
        | none => exact absurd q (h2 k hk c)
        | some y => rfl
      have ha : ∀ z : Int, (if z < 0 then -z else z) = if z < 0 then -z else z := fun _ => rfl
      refine u_set ht hk (by decide) ⟨_, rfl, v_same (ht.2.2 k hk) (by decide) ?_⟩
      rw [es]
      refine wq_ci.eq (by decide) (c_abs (by omega) (by omega)) (wq_ci.eq (by decide) (c_abs (by omega) (by omega)) (wq_ci.eq (by decide) (c_min (by omega) (by omega) (by split <;> omega) (by split <;> omega)) ?_))
      have e1 : ab_s (fun k => set.testBit k) (zs_sm T) (k + 1) = ab_s (fun k => set.testBit k) (zs_sm T) k + (if zs_sm T k < 0 then -zs_sm T k else zs_sm T k) := by simp only [ab_s, c, if_true]
      have e2 : ab_m (fun k => set.testBit k) (zs_sm T) (k + 1) = (if (if zs_sm T k < 0 then -zs_sm T k else zs_sm T k) < ab_m (fun k => set.testBit k) (zs_sm T) k then (if zs_sm T k < 0 then -zs_sm T k else zs_sm T k) else ab_m (fun k => set.testBit k) (zs_sm T) k) := by simp only [ab_m, c, if_true]
      rw [e1, e2] at ih
      rw [iI_add, nI_1]
      refine ⟨fun c3 => ?_, fun c3 => ?_⟩
      · rw [iI_lit 0, iI_le (by omega) (by omega) (by omega) (by omega)] at c3
        have e3 : ab_t (fun k => set.testBit k) (zs_sm T) (k + 1) = ab_t (fun k => set.testBit k) (zs_sm T) k + 0 := by
          unfold ab_t; rw [cnt_s]; simp [c]; omega
        rw [e3] at ih
        rw [nI_lit 0, nI_add]
        exact ih
      · rw [iI_lit 0, iI_le (by omega) (by omega) (by omega) (by omega)] at c3
        have e3 : ab_t (fun k => set.testBit k) (zs_sm T) (k + 1) = ab_t (fun k => set.testBit k) (zs_sm T) k + 1 := by
          unfold ab_t; rw [cnt_s]; simp [c]; omega
        rw [e3] at ih
        rw [nI_1]
        exact ih
    · rw [b2i_0] at c
      have e1 : ab_s (fun k => set.testBit k) (zs_sm T) (k + 1) = ab_s (fun k => set.testBit k) (zs_sm T) k := by simp [ab_s, c]
      have e2 : ab_m (fun k => set.testBit k) (zs_sm T) (k + 1) = ab_m (fun k => set.testBit k) (zs_sm T) k := by simp [ab_m, c]
      have e3 : ab_t (fun k => set.testBit k) (zs_sm T) (k + 1) = ab_t (fun k => set.testBit k) (zs_sm T) k := by
        unfold ab_t; rw [cnt_s]; simp [c]
      rw [e1, e2, e3] at ih
      rw [nI_1]
      exact ih
theorem c_twins (ht : tb_at G h t li ba sa ta ca T) : wq_C G l 4 0 0 mX7_wins [.ref t] h (wq_qi fun r h' => r = nI (zs_wins T) ∧ h' = h) := by
  have hl : T.length < 2 ^ 31 := by
    obtain ⟨-, ⟨m, n, f, -, -, q1, q2, -⟩, -⟩ := ht
    simp at q1
    omega
  refine wq_C.of pn_X7 (Nat.le_of_ble_eq_true rfl) rfl (vX7_wins_0 ?_)
  refine down (P := fun k => wq_T G l 4 mX7_wins (wq_qi fun r h' => r = nI (zs_wins T) ∧ h' = h) 4 [some (.ref t), some (.int (nI (fo (fun k a => fo (fun o a => a + (zs_at T k).2.2.2 o * (zs_at T k).2.2.1 o) (zs_out (zs_at T k)) a) k 0))), some (.int (nI k)), none] [] h 0 0) (n := T.length) ?_ ?_
  · exact vX7_wins_4 (u_size ht (by decide) ⟨fun _ => ⟨rfl, rfl⟩, fun c => absurd (Int32.le_refl _) c⟩)
  · intro k hk ih
    refine vX7_wins_4 (u_size ht (by decide) ⟨fun c => ?_, fun _ => ?_⟩)
    · rw [nI_leI (by omega) (by omega)] at c
      omega
    · have h4 := zs_out_le (zs_at T k)
      obtain ⟨f, f1, f2⟩ := as_t (ht.2.2 k hk)
      obtain ⟨g, g1, g2⟩ := as_c (ht.2.2 k hk)
      refine down (P := fun o => wq_T G l 4 mX7_wins (wq_qi fun r h' => r = nI (zs_wins T) ∧ h' = h) 14 [some (.ref t), some (.int (nI (fo (fun o a => a + (zs_at T k).2.2.2 o * (zs_at T k).2.2.1 o) o (fo (fun k a => fo (fun o a => a + (zs_at T k).2.2.2 o * (zs_at T k).2.2.1 o) (zs_out (zs_at T k)) a) k 0)))), some (.int (nI k)), some (.int (nI o))] [] h 0 0) (n := zs_out (zs_at T k)) ?_ ?_
      · refine vX7_wins_14 (u_set ht hk (by decide) ⟨_, rfl, v_outcomes (ht.2.2 k hk) (by decide) ⟨fun _ => ?_, fun c => absurd (Int32.le_refl _) c⟩⟩)
        rw [nI_1]
        exact ih
      · intro o ho ih2
        refine vX7_wins_14 (u_set ht hk (by decide) ⟨_, rfl, v_outcomes (ht.2.2 k hk) (by decide) ⟨fun c => ?_, fun _ => u_set ht hk (by decide) ⟨_, rfl, as_R1 (ht.2.2 k hk) (ai_n g1 o rfl (by omega) (by omega) (u_set ht hk (by decide) ⟨_, rfl, as_R0 (ht.2.2 k hk) (ai_n f1 o rfl (by omega) (by omega) ?_)⟩))⟩⟩⟩)
        · rw [nI_leI (by omega) (by omega)] at c
          omega
        · rw [g2 o ho, f2 o ho, nI_mul, nI_add, nI_1]
          exact ih2
theorem c_pays (ht : tb_at G h t li ba sa ta ca T) (hT : zs_ok L N T) (hL : L ≤ 6) {hh : Nat} (hh1 : hh < 2 ^ 31) : wq_C G l 4 0 0 mX7_pays [.ref t, .int (nI hh)] h (wq_qi fun r h' => r = nI (zs_pays T hh) ∧ h' = h) := by
  have h8 := hT.1
  refine wq_C.of pn_X7 (Nat.le_of_ble_eq_true rfl) rfl (vX7_pays_0 ?_)
  refine down (P := fun k => wq_T G l 4 mX7_pays (wq_qi fun r h' => r = nI (zs_pays T hh) ∧ h' = h) 4 [some (.ref t), some (.int (nI hh)), some (.int (nI (fo (fun k a => a + (zs_at T k).2.2.2 (zs_fit (zs_at T k) hh)) k 0))), some (.int (nI k))] [] h 0 0) (n := T.length) ?_ ?_
  · exact vX7_pays_4 (u_size ht (by decide) ⟨fun _ => ⟨rfl, rfl⟩, fun c => absurd (Int32.le_refl _) c⟩)
  · intro k hk ih
    have o6 := ok6 hT hL hk
    have hf := zs_fit_lt (zs_at T k) hh
    have h4 := zs_out_le (zs_at T k)
    obtain ⟨g, g1, g2⟩ := as_c (ht.2.2 k hk)
    refine vX7_pays_4 (u_size ht (by decide) ⟨fun c => ?_, fun _ => u_set ht hk (by decide) ⟨_, rfl, as_R1 (ht.2.2 k hk) (u_set ht hk (by decide) ⟨_, rfl, v_outcome (ht.2.2 k hk) o6.1 o6.2 hh1 (by decide) (ai_n g1 _ rfl (by omega) (by omega) ?_)⟩)⟩⟩)
    · rw [nI_leI (by omega) (by omega)] at c
      omega
    · rw [g2 _ hf, nI_add, nI_1]
      exact ih
def zs_dst (L : Nat) (T : zs_T) : Int32 := match fst (fun x => decide (zs_dis T x T.length = none)) L with
  | some x => nI x
  | none => -2
theorem dis_none {T : zs_T} {x k : Nat} (h : zs_dis T x k = none) (m : Nat) : zs_dis T x (k + m) = none := by
  induction m with
  | zero => exact h
  | succ m ih => show (match zs_dis T x (k + m) with | none => none | some w => _) = none; rw [ih]
theorem on1_m1 {w : Option Nat} (h : ∀ n, w = some n → n < 2 ^ 31) : on1 w = -1 ↔ w = none := by
  cases w with
  | none => simp [on1]
  | some n =>
    simp only [on1, reduceCtorEq, iff_false]
    intro q
    have := nI_pos (h n rfl)
    rw [q] at this
    exact this (by decide)
theorem isof_ones {e : zs_E} {x : Nat} : zs_isof e x = true ↔ zs_ones e x ≠ none := by
  unfold zs_isof zs_ones
  by_cases h1 : e.1 = x
  · cases q : e.2.1 <;> simp [h1]
  · cases q : e.2.1 with
    | none => simp [h1]
    | some b =>
      by_cases h2 : b = x <;> simp [h1, h2]
theorem c_disturbed (ht : tb_at G h t li ba sa ta ca T) (hT : zs_ok L N T) (hL : L ≤ 6) (hN : N ≤ 60) : wq_C G l 4 0 0 mX7_disturbed [.ref t, .int (nI L)] h (wq_qi fun r h' => r = zs_dst L T ∧ h' = h) := by
  have h8 := hT.1
  generalize hK : (fun (r : Int32) (h' : wq_H) => r = zs_dst L T ∧ h' = h) = K
  refine wq_C.of pn_X7 (Nat.le_of_ble_eq_true rfl) rfl (vX7_disturbed_0 ?_)
  refine down (P := fun x => fst (fun x => decide (zs_dis T x T.length = none)) x = none → wq_T G l 4 mX7_disturbed (wq_qi K) 2 [some (.ref t), some (.int (nI L)), some (.int (nI x)), none, none, none] [] h 0 0) (n := L) ?_ ?_ rfl
  · intro q
    subst hK
    exact vX7_disturbed_2 ⟨fun _ => ⟨by rw [zs_dst, q], rfl⟩, fun c => absurd (Int32.le_refl _) c⟩
  · intro x hx ih hq
    have hit : zs_dis T x T.length = none → K (nI x) h := by
      intro z
      have e : fst (fun x => decide (zs_dis T x T.length = none)) (x + 1) = some x := by
        show (match fst _ x with | some k => some k | none => _) = _
        rw [hq]
        simp [z]
      have := fst_up e (L - (x + 1))
      rw [show x + 1 + (L - (x + 1)) = L by omega] at this
      subst hK
      exact ⟨by rw [zs_dst, this], rfl⟩
    refine vX7_disturbed_2 ⟨fun c => ?_, fun _ => ?_⟩
    · rw [nI_leI (by omega) (by omega)] at c
      omega
    · refine down (P := fun k => ∀ w, zs_dis T x k = some w → wq_T G l 4 mX7_disturbed (wq_qi K) 12 [some (.ref t), some (.int (nI L)), some (.int (nI x)), some (.int (on1 w)), some (.int (nI k)), none] [] h 0 0) (n := T.length) ?_ ?_ none rfl
      · intro w hw
        refine vX7_disturbed_12 (u_size ht (by decide) ⟨fun _ => ?_, fun c => absurd (Int32.le_refl _) c⟩)
        rw [nI_1]
        refine ih ?_
        show (match fst _ x with | some k => some k | none => _) = _
        rw [hq]
        simp [hw]
      · intro k hk ih2 w hw
        have o6 := ok6 hT hL hk
        have wle : ∀ n, w = some n → n < 2 ^ 31 := fun n hn => by
          have := zs_dis_le hT k (by omega) w n hw hn
          omega
        have hst : zs_dis T x (k + 1) = none → K (nI x) h := fun z => hit (by
          have := dis_none z (T.length - (k + 1))
          rwa [show k + 1 + (T.length - (k + 1)) = T.length by omega] at this)
        refine vX7_disturbed_12 (u_size ht (by decide) ⟨fun c => ?_, fun _ => u_set ht hk (by decide) ⟨_, rfl, v_isOf (ht.2.2 k hk) o6.1 o6.2 (by omega) (by decide) ⟨fun c => ?_, fun c => ?_⟩⟩⟩)
        · rw [nI_leI (by omega) (by omega)] at c
          omega
        · rw [b2i_0, Bool.not_eq_false, isof_ones] at c
          cases on : zs_ones (zs_at T k) x with
          | none => exact absurd on c
          | some n =>
            have nle := zs_ones_le hT hk on
            refine u_set ht hk (by decide) ⟨_, rfl, v_ones (ht.2.2 k hk) o6.1 (by omega) on (by decide) ⟨fun c2 => ?_, fun c2 => ⟨fun c3 => ?_, fun c3 => hst ?_⟩⟩⟩
            · rw [on1_m1 wle] at c2
              rw [nI_1]
              exact ih2 (some n) (by simp [zs_dis, hw, on, c2])
            · rw [on1_m1 wle] at c2
              cases w with
              | none => exact absurd rfl c2
              | some m =>
                have := wle m rfl
                rw [on1, nI_eq (by omega) (by omega)] at c3
                rw [nI_1]
                exact ih2 (some n) (by simp [zs_dis, hw, on, c3])
            · rw [on1_m1 wle] at c2
              cases w with
              | none => exact absurd rfl c2
              | some m =>
                have := wle m rfl
                rw [on1, nI_eq (by omega) (by omega)] at c3
                simp [zs_dis, hw, on, c3]
        · rw [b2i_0] at c
          have : zs_ones (zs_at T k) x = none := by
            cases on : zs_ones (zs_at T k) x with
            | none => rfl
            | some n =>
              have : zs_isof (zs_at T k) x = true := isof_ones.mpr (by rw [on]; simp)
              rw [c] at this; cases this
          rw [nI_1]
          exact ih2 w (by simp [zs_dis, hw, this])
end CP3
