/-! CONTRACTS of the reference: excess, widest -/
set_option maxRecDepth 100000
theorem cnt_s (p : Nat → Bool) (n : Nat) : cnt p (n + 1) = cnt p n + (p n).toNat := by
  simp only [cnt]
  cases p n <;> rfl
def subB (j set : Nat) : Bool := allB (fun k => !j.testBit k || set.testBit k) 31
theorem subB_iff {j set : Nat} : subB j set = true ↔ ∀ k, k < 31 → j.testBit k = true → set.testBit k = true := by
  unfold subB
  rw [allB_iff]
  constructor
  · intro h k hk hj
    have := h k hk
    rw [hj] at this
    simpa using this
  · intro h k hk
    cases hj : j.testBit k with
    | false => rfl
    | true => simp [h k hk hj]
/-- the sum of what lies apart, the least of it, how many are below nought; a sum with some turned -/
def ab_s (p : Nat → Bool) (v : Nat → Int) : Nat → Int
  | 0 => 0
  | n + 1 => ab_s p v n + (if p n = true then (if v n < 0 then - v n else v n) else 0)
def ab_m (p : Nat → Bool) (v : Nat → Int) : Nat → Int
  | 0 => 2147483647
  | n + 1 => if p n = true then (if (if v n < 0 then - v n else v n) < ab_m p v n then (if v n < 0 then - v n else v n) else ab_m p v n) else ab_m p v n
def ab_t (p : Nat → Bool) (v : Nat → Int) (n : Nat) : Nat := cnt (fun k => p k && decide (v k < 0)) n
def ab_g (p q : Nat → Bool) (v : Nat → Int) : Nat → Int
  | 0 => 0
  | n + 1 => ab_g p q v n + (if p n = true then (if q n = true then - v n else v n) else 0)
theorem ab_up (p q : Nat → Bool) (v : Nat → Int) (n : Nat) : ab_g p q v n ≤ ab_s p v n ∧ (cnt (fun k => p k && q k) n % 2 ≠ ab_t p v n % 2 → ab_g p q v n ≤ ab_s p v n - 2 * ab_m p v n) := by
  induction n with
  | zero => exact ⟨Int.le_refl _, fun h => absurd rfl h⟩
  | succ n ih =>
    obtain ⟨h1, h2⟩ := ih
    simp only [ab_g, ab_s, ab_m, ab_t, cnt_s] at *
    cases hp : p n with
    | false => simpa using ⟨h1, h2⟩
    | true =>
      simp only [Bool.true_and, if_true]
      by_cases hv : v n < 0
      · cases hq : q n with
        | true =>
          simp only [hv, decide_true, if_true, Bool.toNat_true]
          refine ⟨by omega, fun h => ?_⟩
          have := h2 (by omega)
          split <;> omega
        | false =>
          simp only [hv, decide_true, if_true, Bool.false_eq_true, if_false, Bool.toNat_true, Bool.toNat_false]
          refine ⟨by omega, fun h => ?_⟩
          split <;> omega
      · cases hq : q n with
        | true =>
          simp only [hv, decide_false, if_true, if_false, Bool.toNat_true, Bool.toNat_false]
          refine ⟨by omega, fun h => ?_⟩
          split <;> omega
        | false =>
          simp only [hv, decide_false, Bool.false_eq_true, if_false, Bool.toNat_false]
          refine ⟨by omega, fun h => ?_⟩
          have := h2 (by omega)
          split <;> omega
theorem ab_g_cong {p q q' : Nat → Bool} {v : Nat → Int} {n : Nat} (h : ∀ k, k < n → q k = q' k) : ab_g p q v n = ab_g p q' v n := by
  induction n with
  | zero => rfl
  | succ n ih => simp only [ab_g]; rw [ih (fun k hk => h k (by omega)), h n (by omega)]
def at_n (q : Nat → Bool) (n : Nat) (b : Bool) : Nat → Bool := fun k => if k = n then b else q k
theorem at_n_g {p q : Nat → Bool} {v : Nat → Int} {n : Nat} {b : Bool} : ab_g p (at_n q n b) v n = ab_g p q v n := ab_g_cong (fun k hk => by unfold at_n; rw [if_neg (by omega)])
theorem at_n_c {p q : Nat → Bool} {n : Nat} {b : Bool} : cnt (fun k => p k && at_n q n b k) n = cnt (fun k => p k && q k) n := cnt_cong (fun k hk => by unfold at_n; rw [if_neg (by omega)])
theorem at_n_n {q : Nat → Bool} {n : Nat} {b : Bool} : at_n q n b n = b := by simp [at_n]
theorem ab_ex (p : Nat → Bool) (v : Nat → Int) (hv : ∀ k, -1000 ≤ v k ∧ v k ≤ 1000) (n : Nat) : (∃ q : Nat → Bool, cnt (fun k => p k && q k) n % 2 = ab_t p v n % 2 ∧ ab_g p q v n = ab_s p v n) ∧ ((∃ k, k < n ∧ p k = true) → ab_m p v n ≤ 1000 ∧ ∃ q : Nat → Bool, cnt (fun k => p k && q k) n % 2 ≠ ab_t p v n % 2 ∧ ab_g p q v n = ab_s p v n - 2 * ab_m p v n) ∧ ((¬ ∃ k, k < n ∧ p k = true) → ab_m p v n = 2147483647) := by
  induction n with
  | zero => exact ⟨⟨fun _ => false, rfl, rfl⟩, fun ⟨k, hk, _⟩ => by omega, fun _ => rfl⟩
  | succ n ih =>
    obtain ⟨⟨q1, e1, g1⟩, h2, h3⟩ := ih
    have hvn := hv n
    cases hp : p n with
    | false =>
      refine ⟨⟨q1, ?_, ?_⟩, fun ⟨k, hk, pk⟩ => ?_, fun hn => ?_⟩
      · simp only [ab_t, cnt_s, hp, Bool.false_and, Bool.toNat_false, Nat.add_zero] at *; exact e1
      · simp only [ab_g, ab_s, hp, Bool.false_eq_true, if_false, Int.add_zero]; exact g1
      · obtain ⟨hm, q, e, g⟩ := h2 ⟨k, by
          by_cases c : k = n
          · subst c; rw [hp] at pk; cases pk
          · omega, pk⟩
        refine ⟨?_, q, ?_, ?_⟩
        · simp only [ab_m, hp, Bool.false_eq_true, if_false]; exact hm
        · simp only [ab_t, cnt_s, hp, Bool.false_and, Bool.toNat_false, Nat.add_zero] at *; exact e
        · simp only [ab_g, ab_s, ab_m, hp, Bool.false_eq_true, if_false, Int.add_zero]; exact g
      · simp only [ab_m, hp, Bool.false_eq_true, if_false]
        exact h3 (fun ⟨k, hk, pk⟩ => hn ⟨k, by omega, pk⟩)
    | true =>
      refine ⟨⟨at_n q1 n (decide (v n < 0)), ?_, ?_⟩, fun _ => ?_, fun hn => absurd ⟨n, by omega, hp⟩ hn⟩
      · simp only [ab_t, cnt_s] at *
        rw [at_n_c, at_n_n]
        simp only [hp, Bool.true_and]
        omega
      · simp only [ab_g, ab_s]
        rw [at_n_g, at_n_n, g1]
        by_cases c : v n < 0
        · simp [c]
        · simp [c]
      · have use1 : (if v n < 0 then - v n else v n) < ab_m p v n → ab_m p v (n + 1) ≤ 1000 ∧ ∃ q : Nat → Bool, cnt (fun k => p k && q k) (n + 1) % 2 ≠ ab_t p v (n + 1) % 2 ∧ ab_g p q v (n + 1) = ab_s p v (n + 1) - 2 * ab_m p v (n + 1) := by
          intro c
          refine ⟨?_, at_n q1 n (!decide (v n < 0)), ?_, ?_⟩
          · simp only [ab_m, hp, if_true, if_pos c]
            split <;> omega
          · simp only [ab_t, cnt_s] at *
            rw [at_n_c, at_n_n]
            by_cases c2 : v n < 0
            · simp only [hp, c2, decide_true, Bool.not_true, Bool.and_false, Bool.true_and, Bool.toNat_true, Bool.toNat_false]; omega
            · simp only [hp, c2, decide_false, Bool.not_false, Bool.and_false, Bool.true_and, Bool.toNat_true, Bool.toNat_false]; omega
          · simp only [ab_g, ab_s, ab_m, hp, if_true, if_pos c]
            rw [at_n_g, at_n_n, g1]
            by_cases c2 : v n < 0
            · simp only [c2, decide_true, Bool.not_true, if_true, Bool.false_eq_true, if_false]; omega
            · simp only [c2, decide_false, Bool.not_false, if_true, if_false]; omega
        by_cases hk : ∃ k, k < n ∧ p k = true
        · by_cases c : (if v n < 0 then - v n else v n) < ab_m p v n
          · exact use1 c
          · obtain ⟨hm, q, e, g⟩ := h2 hk
            refine ⟨?_, at_n q n (decide (v n < 0)), ?_, ?_⟩
            · simp only [ab_m, hp, if_true, if_neg c]; exact hm
            · simp only [ab_t, cnt_s] at *
              rw [at_n_c, at_n_n]
              simp only [hp, Bool.true_and]
              omega
            · simp only [ab_g, ab_s, ab_m, hp, if_true, if_neg c]
              rw [at_n_g, at_n_n, g]
              by_cases c2 : v n < 0
              · simp only [c2, decide_true, if_true]; omega
              · simp only [c2, decide_false, Bool.false_eq_true, if_false]; omega
        · refine use1 ?_
          rw [h3 hk]
          split <;> omega
def zs_sm (T : zs_T) (k : Nat) : Int := zs_same (zs_at T k)
def zs_exc (T : zs_T) (N set : Nat) : Int := ab_s (fun k => set.testBit k) (zs_sm T) T.length - (if ab_t (fun k => set.testBit k) (zs_sm T) T.length % 2 = 1 then 0 else 2 * ab_m (fun k => set.testBit k) (zs_sm T) T.length) - N * ((bc set 20 : Int) - 2)
/-- the greatest sum with an odd number turned -/
def ab_x (T : zs_T) (set : Nat) : Nat → Int
  | 0 => -100000
  | n + 1 => if subB n set = true ∧ bc n 20 % 2 = 1 ∧ ab_x T set n < ab_g (fun k => set.testBit k) (fun k => n.testBit k) (zs_sm T) T.length then ab_g (fun k => set.testBit k) (fun k => n.testBit k) (zs_sm T) T.length else ab_x T set n
theorem zs_sm_le {L N : Nat} {T : zs_T} (h : zs_ok L N T) (hN : N ≤ 60) {k : Nat} (hk : k < T.length) (h2 : (zs_at T k).2.1 ≠ none) : -60 ≤ zs_sm T k ∧ zs_sm T k ≤ 60 := by
  have h1 := (ok_get h hk).2.2.1
  unfold zs_sm zs_same
  cases e : (zs_at T k).2.1 with
  | none => exact absurd e h2
  | some b =>
    rw [e] at h1
    simp only at h1
    omega
theorem ab_g_le {p q : Nat → Bool} {v : Nat → Int} : ∀ n, (∀ k, k < n → p k = true → -60 ≤ v k ∧ v k ≤ 60) → -60 * n ≤ ab_g p q v n ∧ ab_g p q v n ≤ 60 * n := by
  intro n
  induction n with
  | zero => intro _; simp [ab_g]
  | succ n ih =>
    intro h
    have h1 := ih (fun k hk => h k (by omega))
    simp only [ab_g]
    cases hp : p n with
    | false => simp only [Bool.false_eq_true, if_false]; omega
    | true =>
      have h2 := h n (by omega) hp
      simp only [if_true]
      split <;> omega
theorem ab_x_le (T : zs_T) (set : Nat) (hv : ∀ k, k < T.length → set.testBit k = true → -60 ≤ zs_sm T k ∧ zs_sm T k ≤ 60) (h8 : T.length ≤ 8) : ∀ n, -100000 ≤ ab_x T set n ∧ ab_x T set n ≤ 480 := by
  intro n
  induction n with
  | zero => simp [ab_x]
  | succ n ih =>
    have := ab_g_le (p := fun k => set.testBit k) (q := fun k => n.testBit k) (v := zs_sm T) T.length hv
    simp only [ab_x]
    split <;> omega
theorem ab_x_ge (T : zs_T) (set : Nat) : ∀ n m, m < n → subB m set = true → bc m 20 % 2 = 1 → ab_g (fun k => set.testBit k) (fun k => m.testBit k) (zs_sm T) T.length ≤ ab_x T set n := by
  intro n
  induction n with
  | zero => intro m hm; omega
  | succ n ih =>
    intro m hm h1 h2
    simp only [ab_x]
    by_cases e : m = n
    · subst e
      split
      · omega
      · rename_i c
        have : ¬ ab_x T set m < _ := fun q => c ⟨h1, h2, q⟩
        omega
    · have := ih m (by omega) h1 h2
      split <;> omega
theorem ab_x_up (T : zs_T) (set : Nat) (V : Int) (h0 : -100000 ≤ V) : ∀ n, (∀ m, m < n → subB m set = true → bc m 20 % 2 = 1 → ab_g (fun k => set.testBit k) (fun k => m.testBit k) (zs_sm T) T.length ≤ V) → ab_x T set n ≤ V := by
  intro n
  induction n with
  | zero => intro _; exact h0
  | succ n ih =>
    intro h
    have h1 := ih (fun m hm => h m (by omega))
    simp only [ab_x]
    split
    · rename_i c
      exact h n (by omega) c.1 c.2.1
    · exact h1
theorem ab_x_eq {L N : Nat} {T : zs_T} (hT : zs_ok L N T) (hN : N ≤ 60) {set : Nat} (hs : set < 2 ^ T.length) (h2 : ∀ k, k < T.length → set.testBit k = true → (zs_at T k).2.1 ≠ none) (hne : ∃ k, k < T.length ∧ set.testBit k = true) : ab_x T set (2 ^ T.length) - N * ((bc set 20 : Int) - 2) = zs_exc T N set := by
  have h8 := hT.1
  have hv : ∀ k, k < T.length → set.testBit k = true → -60 ≤ zs_sm T k ∧ zs_sm T k ≤ 60 := fun k hk hp => zs_sm_le hT hN hk (h2 k hk hp)
  have hcnt : ∀ m, m < 2 ^ T.length → subB m set = true → bc m 20 = cnt (fun k => set.testBit k && m.testBit k) T.length := by
    intro m hm hsub
    rw [bc_small hm (by omega), bc_cnt]
    refine cnt_cong (fun k hk => ?_)
    cases hb : m.testBit k with
    | false => simp
    | true => simp [subB_iff.mp hsub k (by omega) hb]
  -- outside of the sets of two looks nothing counts
  have hw : ∀ w : Nat → Int, (∀ k, k < T.length → set.testBit k = true → w k = zs_sm T k) → ∀ n, n ≤ T.length → ab_s (fun k => set.testBit k) w n = ab_s (fun k => set.testBit k) (zs_sm T) n ∧ ab_m (fun k => set.testBit k) w n = ab_m (fun k => set.testBit k) (zs_sm T) n ∧ ab_t (fun k => set.testBit k) w n = ab_t (fun k => set.testBit k) (zs_sm T) n ∧ ∀ q, ab_g (fun k => set.testBit k) q w n = ab_g (fun k => set.testBit k) q (zs_sm T) n := by
    intro w hw n
    induction n with
    | zero => intro _; exact ⟨rfl, rfl, rfl, fun _ => rfl⟩
    | succ n ih =>
      intro hn
      obtain ⟨e1, e2, e3, e4⟩ := ih (by omega)
      unfold ab_t at *
      cases hp : set.testBit n with
      | false => simp only [ab_s, ab_m, ab_g, cnt_s, hp, Bool.false_eq_true, if_false, Bool.false_and, e1, e2, e3, e4]; exact ⟨trivial, trivial, trivial, fun _ => trivial⟩
      | true => simp only [ab_s, ab_m, ab_g, cnt_s, hp, if_true, Bool.true_and, e1, e2, e3, e4, hw n (by omega) hp]; exact ⟨trivial, trivial, trivial, fun _ => trivial⟩
  obtain ⟨w1, w2, w3, w4⟩ := hw (fun k => if k < T.length ∧ set.testBit k = true then zs_sm T k else 0) (fun k hk hp => if_pos ⟨hk, hp⟩) T.length (Nat.le_refl _)
  obtain ⟨⟨q1, e1, g1⟩, hB, -⟩ := ab_ex (fun k => set.testBit k) (fun k => if k < T.length ∧ set.testBit k = true then zs_sm T k else 0) (fun k => by
    split
    · rename_i c; have := hv k c.1 c.2; omega
    · omega) T.length
  obtain ⟨hm, q2, e2, g2⟩ := hB hne
  rw [w1, w4] at g1
  rw [w1, w2, w4] at g2
  rw [w3] at e1 e2
  have num : ∀ q : Nat → Bool, ∃ m, m < 2 ^ T.length ∧ subB m set = true ∧ bc m 20 = cnt (fun k => set.testBit k && q k) T.length ∧ ab_g (fun k => set.testBit k) (fun k => m.testBit k) (zs_sm T) T.length = ab_g (fun k => set.testBit k) q (zs_sm T) T.length := by
    intro q
    refine ⟨bs (fun k => set.testBit k && q k) T.length, bs_lt _ _, subB_iff.mpr (fun k _ hk => ?_), bc_bs _ (by omega), ?_⟩
    · rw [bs_bit] at hk
      simp only [Bool.and_eq_true] at hk
      exact hk.2.1
    · have : ∀ n, n ≤ T.length → ab_g (fun k => set.testBit k) (fun k => (bs (fun k => set.testBit k && q k) T.length).testBit k) (zs_sm T) n = ab_g (fun k => set.testBit k) q (zs_sm T) n := by
        intro n
        induction n with
        | zero => intro _; rfl
        | succ n ih =>
          intro hn
          simp only [ab_g]
          rw [ih (by omega)]
          have eb : (bs (fun k => set.testBit k && q k) T.length).testBit n = (set.testBit n && q n) := by
            rw [bs_bit]; simp [show n < T.length by omega]
          by_cases hp : set.testBit n = true
          · simp [eb, hp]
          · simp [hp]
      exact this _ (Nat.le_refl _)
  have hS := ab_g_le (p := fun k => set.testBit k) (q := q1) (v := zs_sm T) T.length hv
  have hS2 := ab_g_le (p := fun k => set.testBit k) (q := q2) (v := zs_sm T) T.length hv
  have hmain : ab_x T set (2 ^ T.length) = ab_s (fun k => set.testBit k) (zs_sm T) T.length - (if ab_t (fun k => set.testBit k) (zs_sm T) T.length % 2 = 1 then 0 else 2 * ab_m (fun k => set.testBit k) (zs_sm T) T.length) := by
    by_cases c : ab_t (fun k => set.testBit k) (zs_sm T) T.length % 2 = 1
    · rw [if_pos c]
      obtain ⟨m, m1, m2, m3, m4⟩ := num q1
      have h1 := ab_x_ge T set (2 ^ T.length) m m1 m2 (by omega)
      have h3 := ab_x_up T set (ab_s (fun k => set.testBit k) (zs_sm T) T.length) (by omega) (2 ^ T.length) (fun m _ _ _ => (ab_up _ _ _ _).1)
      omega
    · rw [if_neg c]
      obtain ⟨m, m1, m2, m3, m4⟩ := num q2
      have h1 := ab_x_ge T set (2 ^ T.length) m m1 m2 (by omega)
      have h3 := ab_x_up T set (ab_s (fun k => set.testBit k) (zs_sm T) T.length - 2 * ab_m (fun k => set.testBit k) (zs_sm T) T.length) (by omega) (2 ^ T.length) (fun m m1 m2 m3 => (ab_up _ _ _ _).2 (by rw [← hcnt m m1 m2]; omega))
      omega
  rw [hmain]
  rfl
theorem cyc_two {T : zs_T} {set : Nat} (hs : set < 2 ^ T.length) (h8 : T.length ≤ 8) (h : zs_cyc T set = true) : (∀ k, k < T.length → set.testBit k = true → (zs_at T k).2.1 ≠ none) ∧ ∃ k, k < T.length ∧ set.testBit k = true := by
  simp only [zs_cyc, Bool.and_eq_true, decide_eq_true_eq] at h
  obtain ⟨h3, h4⟩ := h
  refine ⟨?_, ?_⟩
  · cases hf : cy_f T set T.length with
    | none => rw [hf] at h4; cases h4
    | some q => exact (cy_some _ _ hf).1
  · apply Classical.byContradiction
    intro hn
    have hj : ∀ j, j < T.length → set.testBit j = false := fun j hj => by
      cases hb : set.testBit j with
      | false => rfl
      | true => exact absurd ⟨j, hj, hb⟩ hn
    have : bc set 20 = 0 := by
      rw [bc_small (n := T.length) hs (by omega), bc_cnt]
      have hz : ∀ n, n ≤ T.length → cnt (fun k => set.testBit k) n = 0 := by
        intro n
        induction n with
        | zero => intro _; rfl
        | succ n ih => intro hn; simp [cnt, ih (by omega), hj n (by omega)]
      exact hz _ (Nat.le_refl _)
    omega
noncomputable def zs_wide (T : zs_T) (N : Nat) : Option Nat := fo (fun set b => if zs_cyc T set then (match b with
  | none => some set
  | some c => if zs_exc T N c < zs_exc T N set then some set else some c) else b) (2 ^ T.length) none
theorem iI_mulN (a : Nat) (b : Int) : nI a * iI b = iI (a * b) := by rw [nI_iI, iI_mul]
section TW10
variable {G : wq_G} {l : Launch} {o : Nat} {ad : Nat → Nat} {h : wq_H} {s : tw_S} {L N : Nat} {T : zs_T}
theorem t_excessOf (ok : tw_ok G o ad) (hq : tr_q s L N T) {set : Nat} (hs : set < 2 ^ T.length) (h2 : ∀ k, k < T.length → set.testBit k = true → (zs_at T k).2.1 ≠ none) (hne : ∃ k, k < T.length ∧ set.testBit k = true) : wq_C G l 1 0 0 mX3_excessOf [.ref o, .int (nI set)] (tw_h G o ad s h) (tw_qi G o ad h fun r s' => r = iI (zs_exc T N set) ∧ s' = s) := by
  have h8 := tr_8 hq
  have h88 := pow_9 h8
  have h0 : s.2.1 15 0 = nI T.length := hq.1.1
  have hN := hq.2.2.2.2.2.2
  have hv : ∀ k, k < T.length → set.testBit k = true → -60 ≤ zs_sm T k ∧ zs_sm T k ≤ 60 := fun k hk hp => zs_sm_le hq.2.2.1 hN.2 hk (h2 k hk hp)
  have hx := ab_x_le T set hv h8
  refine wq_C.of pn_X3 (Nat.le_of_ble_eq_true rfl) rfl (vX3_excessOf_0 ok ?_)
  generalize hQ : (tw_qi G o ad h fun r s' => r = iI (zs_exc T N set) ∧ s' = s) = Q
  refine down (P := fun j => tw_T G l o ad h 1 mX3_excessOf Q 6 [some (.ref o), some (.int (nI set)), some (.int (iI (ab_x T set j))), some (.int (nI j)), none, none] [] s) (n := 2 ^ T.length) ?_ ?_
  · subst hQ
    refine vX3_excessOf_6 ok (tw_ld_n 0 rfl (by decide) ?_)
    rw [h0, nI_shl (by omega)]
    refine ⟨fun _ => tw_ld_n 49 rfl (by decide) ?_, fun c => absurd (Int32.le_refl _) c⟩
    rw [hq.2.2.2.2.1]
    refine tw_ci.eq (by decide) (t_bits ok 0 (by omega)) ⟨?_, rfl⟩
    rw [← ab_x_eq hq.2.2.1 hN.2 hs h2 hne, nI_iI (bc set 20), show (2 : Int32) = iI 2 from rfl, iI_sub, iI_mulN, iI_sub]
  · intro j hj ih
    have bj := bc_le j 20
    have inner : subB j set = true → bc j 20 % 2 = 1 → tw_T G l o ad h 1 mX3_excessOf Q 44 [some (.ref o), some (.int (nI set)), some (.int (iI (ab_x T set j))), some (.int (nI j)), some (.int (iI 0)), some (.int (nI 0))] [] s := by
      intro c1 c2
      refine down (P := fun k => tw_T G l o ad h 1 mX3_excessOf Q 44 [some (.ref o), some (.int (nI set)), some (.int (iI (ab_x T set j))), some (.int (nI j)), some (.int (iI (ab_g (fun k => set.testBit k) (fun k => j.testBit k) (zs_sm T) k))), some (.int (nI k))] [] s) (n := T.length) ?_ ?_
      · have g1 := ab_g_le (p := fun k => set.testBit k) (q := fun k => j.testBit k) (v := zs_sm T) T.length hv
        have x1 := hx j
        subst hQ
        refine vX3_excessOf_44 ok (tw_ld_n 0 rfl (by decide) ?_)
        rw [h0]
        refine ⟨fun _ => ?_, fun c => absurd (Int32.le_refl _) c⟩
        rw [iI_le (by omega) (by omega) (by omega) (by omega), nI_1]
        refine ⟨fun c => ?_, fun c => ?_⟩
        · have e : ab_x T set (j + 1) = ab_x T set j := if_neg (fun q => by have := q.2.2; omega)
          simp only [e] at ih
          exact ih
        · have e : ab_x T set (j + 1) = ab_g (fun k => set.testBit k) (fun k => j.testBit k) (zs_sm T) T.length := if_pos ⟨c1, c2, by omega⟩
          simp only [e] at ih
          exact ih
      · intro k hk ihk
        subst hQ
        refine vX3_excessOf_44 ok (tw_ld_n 0 rfl (by decide) ?_)
        rw [h0]
        refine ⟨fun c => ?_, fun _ => tw_ci.eq (by decide) (t_has ok 0 (by omega) (by omega)) ?_⟩
        · rw [nI_leI (by omega) (by omega)] at c
          omega
        · rw [b2i_0, nI_1]
          refine ⟨fun c => ?_, fun c => tw_ci.eq (by decide) (t_has ok 0 (by omega) (by omega)) ?_⟩
          · rw [Int32.add_zero]
            simpa [ab_g, c] using ihk
          · simp only [Bool.not_eq_false] at c
            rw [b2i_0]
            refine ⟨fun c2 => tw_ci.eq (by decide) (t_sameOf ok hq hk (h2 k hk c)) ?_, fun c2 => tw_ci.eq (by decide) (t_sameOf ok hq hk (h2 k hk c)) ?_⟩
            · rw [iI_add]
              simpa [ab_g, c, c2, zs_sm] using ihk
            · simp only [Bool.not_eq_false] at c2
              rw [iI_neg, iI_add]
              simpa [ab_g, c, c2, zs_sm] using ihk
    subst hQ
    refine vX3_excessOf_6 ok (tw_ld_n 0 rfl (by decide) ?_)
    rw [h0, nI_shl (by omega)]
    refine ⟨fun c => ?_, fun _ => ?_⟩
    · rw [nI_leI (by omega) (by omega)] at c
      omega
    · rw [and_not (by omega) (by omega), ← subB_iff, nI_1]
      refine ⟨fun c => ?_, fun c => tw_ci.eq (by decide) (t_bits ok 0 (by omega)) ?_⟩
      · have e : ab_x T set (j + 1) = ab_x T set j := if_neg (fun q => c q.1)
        simp only [e] at ih
        exact ih
      · rw [nI_mod2 (by omega), nI_lit 0, nI_eq (by omega) (by omega)]
        refine ⟨fun c2 => inner c (by omega), fun c2 => ?_⟩
        have e : ab_x T set (j + 1) = ab_x T set j := if_neg (fun q => by have := q.2.1; omega)
        simp only [e] at ih
        exact ih
theorem zs_exc_le (hq : tr_q s L N T) {set : Nat} (hs : set < 2 ^ T.length) (hc : zs_cyc T set = true) : -200000 ≤ zs_exc T N set ∧ zs_exc T N set ≤ 200000 := by
  have h8 := tr_8 hq
  obtain ⟨h2, hne⟩ := cyc_two hs h8 hc
  have hN := hq.2.2.2.2.2.2
  have hv : ∀ k, k < T.length → set.testBit k = true → -60 ≤ zs_sm T k ∧ zs_sm T k ≤ 60 := fun k hk hp => zs_sm_le hq.2.2.1 hN.2 hk (h2 k hk hp)
  have hx := ab_x_le T set hv h8 (2 ^ T.length)
  rw [← ab_x_eq hq.2.2.1 hN.2 hs h2 hne]
  have hb := bc_le set 20
  have e : (N : Int) * ((bc set 20 : Int) - 2) ≤ 60 * 20 ∧ -120 ≤ (N : Int) * ((bc set 20 : Int) - 2) := by
    have h1 : (N : Int) * (bc set 20 : Int) ≤ 60 * 20 := Int.mul_le_mul (by omega) (by omega) (by omega) (by omega)
    have h3 : 0 ≤ (N : Int) * (bc set 20 : Int) := Int.mul_nonneg (by omega) (by omega)
    rw [Int.mul_sub]
    omega
  omega
theorem t_excess (ok : tw_ok G o ad) (x : Int32) (b : Bool) (hb : s.1 14 = b2i b) (hq : b = true → tr_q s L N T) : wq_C G l 2 0 0 mX3_excess [.ref o, .int x] (tw_h G o ad s h) (tw_qi G o ad h (tw_e s (if b && (inB x (2 ^ T.length) && zs_cyc T x.toNatClampNeg) then iI (zs_exc T N x.toNatClampNeg) else -1000) (if b then (if inB x (2 ^ T.length) && zs_cyc T x.toNatClampNeg then 0 else 5) else 1))) := by
  have fin : ∀ t, tw_e s (-1000) t (-1000) (tw_pi (tw_g s) 11 t) := fun t => ⟨rfl, (tw_g_fr s).trans (tw_fr_pi (by decide)), tw_pi_same⟩
  refine wq_C.of pn_X3 (Nat.le_of_ble_eq_true rfl) rfl (vX3_excess_0 ok (tw_cv.eq (by decide) (t_good ok) ?_))
  rw [tw_g_14, hb, b2i_0]
  refine ⟨fun c => ?_, fun c => ?_⟩
  · simp only [Bool.not_eq_false] at c
    subst c
    have hq' : tr_q (tw_g s) L N T := hq rfl
    have h8 := tr_8 hq'
    have h88 := pow_9 h8
    refine tw_ci.eq (by decide) (t_isCycle ok hq' x) ?_
    rw [b2i_0]
    refine ⟨fun c => ?_, fun c => ?_⟩
    · rw [c]
      exact tw_ci.is (by decide) (t_less ok 5 (-1000)) (fin 5)
    · simp only [Bool.not_eq_false] at c
      rw [c]
      simp only [Bool.and_eq_true] at c
      obtain ⟨k, hk, rfl⟩ := inB_of c.1
      rw [nI_clamp (by omega)] at c ⊢
      obtain ⟨h2, hne⟩ := cyc_two hk h8 c.2
      exact tw_ci.eq (by decide) (t_excessOf ok hq' hk h2 hne) tw_e_g
  · subst c
    exact tw_ci.is (by decide) (t_less ok 1 (-1000)) (fin 1)
theorem t_widest (ok : tw_ok G o ad) (b : Bool) (hb : s.1 14 = b2i b) (hq : b = true → tr_q s L N T) : wq_C G l 2 0 0 mX3_widest [.ref o] (tw_h G o ad s h) (tw_qi G o ad h (tw_e s (if b then on2 (zs_wide T N) else -1) (if b then 0 else 1))) := by
  refine wq_C.of pn_X3 (Nat.le_of_ble_eq_true rfl) rfl (vX3_widest_0 ok (tw_cv.eq (by decide) (t_good ok) ?_))
  rw [tw_g_14, hb, b2i_0]
  refine ⟨fun c => ?_, fun c => ?_⟩
  · simp only [Bool.not_eq_false] at c
    subst c
    have hq' : tr_q (tw_g s) L N T := hq rfl
    have h8 := tr_8 hq'
    have h88 := pow_9 h8
    have h0 : (tw_g s).2.1 15 0 = nI T.length := hq'.1.1
    simp only [if_true]
    unfold zs_wide
    generalize hF : (fun set b => if zs_cyc T set then (match b with
      | none => some set
      | some c => if zs_exc T N c < zs_exc T N set then some set else some c) else b) = F
    have hlt : ∀ n c, fo F n none = some c → c < n ∧ zs_cyc T c = true := by
      intro n
      induction n with
      | zero => intro c h; cases h
      | succ n ih =>
        intro c hc
        have : F n (fo F n none) = some c := hc
        subst hF
        simp only at this
        split at this
        · rename_i hcy
          split at this
          · cases this; exact ⟨by omega, hcy⟩
          · rename_i c' e
            split at this
            · cases this; exact ⟨by omega, hcy⟩
            · cases this
              have := ih _ e
              exact ⟨by omega, this.2⟩
        · have := ih _ this
          exact ⟨by omega, this.2⟩
    have go : ∀ m j y, j + m = 2 ^ T.length → (∀ c, fo F j none = some c → y = iI (zs_exc T N c)) → tw_T G l o ad h 2 mX3_widest (tw_qi G o ad h (tw_e s (on2 (fo F (2 ^ T.length) none)) 0)) 24 [some (.ref o), some (.int (on2 (fo F j none))), some (.int y), some (.int (nI j)), none] [] (tw_g s) := by
      intro m
      induction m with
      | zero =>
        intro j y hj hy
        obtain rfl : j = 2 ^ T.length := by omega
        refine vX3_widest_24 ok (tw_ld_n 0 rfl (by decide) ?_)
        rw [h0, nI_shl (by omega)]
        exact ⟨fun _ => tw_e_g, fun c => absurd (Int32.le_refl _) c⟩
      | succ m ih =>
        intro j y hj hy
        have ih := fun y' => ih (j + 1) y' (by omega)
        have hstep : fo F (j + 1) none = F j (fo F j none) := rfl
        refine vX3_widest_24 ok (tw_ld_n 0 rfl (by decide) ?_)
        rw [h0, nI_shl (by omega)]
        refine ⟨fun c => ?_, fun _ => tw_ci.eq (by decide) (t_isCycle ok hq' (nI j)) ?_⟩
        · rw [nI_leI (by omega) (by omega)] at c
          omega
        · rw [inB_nI (by omega), nI_clamp (by omega), b2i_0, decide_eq_true (by omega : j < 2 ^ T.length), Bool.true_and, nI_1]
          refine ⟨fun c => ?_, fun c => ?_⟩
          · simp only [Bool.not_eq_false] at c
            obtain ⟨h2, hne⟩ := cyc_two (by omega : j < 2 ^ T.length) h8 c
            have xj := zs_exc_le hq' (by omega : j < 2 ^ T.length) c
            refine tw_ci.eq (by decide) (t_excessOf ok hq' (by omega) h2 hne) ?_
            rw [on2_none (fun k hk => by have := (hlt j k hk).1; omega)]
            refine ⟨fun c2 => ?_, fun c2 => ?_⟩
            · have e : fo F (j + 1) none = some j := by rw [hstep, c2]; subst hF; simp [c]
              have := ih (iI (zs_exc T N j)) (fun c h => by rw [e] at h; cases h; rfl)
              rw [e] at this
              exact this
            · cases hb : fo F j none with
              | none => exact absurd hb c2
              | some c' =>
                have hc' := hlt j c' hb
                have xc := zs_exc_le hq' (by omega : c' < 2 ^ T.length) hc'.2
                rw [hy c' hb, iI_lt (by omega) (by omega) (by omega) (by omega)]
                refine ⟨fun c3 => ?_, fun c3 => ?_⟩
                · have e : fo F (j + 1) none = some j := by rw [hstep, hb]; subst hF; simp [c, c3]
                  have := ih (iI (zs_exc T N j)) (fun c h => by rw [e] at h; cases h; rfl)
                  rw [e] at this
                  exact this
                · have e : fo F (j + 1) none = some c' := by rw [hstep, hb]; subst hF; simp [c, c3]
                  have := ih (iI (zs_exc T N c')) (fun c h => by rw [e] at h; cases h; rfl)
                  rw [e] at this
                  exact this
          · have e : fo F (j + 1) none = fo F j none := by rw [hstep]; subst hF; simp [c]
            have := ih y (fun c h => hy c (by rw [← e]; exact h))
            rw [e] at this
            exact this
    exact go (2 ^ T.length) 0 0 (by omega) (fun c h => by cases h)
  · subst c
    exact tw_ci.is (by decide) (t_no ok 1) tw_e_no
end TW10
