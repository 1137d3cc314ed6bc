/-! CONTRACTS of the reference: cycles -/
set_option maxRecDepth 100000
noncomputable def pB (P : Prop) : Bool := @decide P (Classical.propDecidable P)
theorem pB_t {P : Prop} : pB P = true ↔ P := by
  unfold pB
  exact @decide_eq_true_iff P (Classical.propDecidable P)
theorem pB_f {P : Prop} : pB P = false ↔ ¬ P := by
  unfold pB
  exact @decide_eq_false_iff_not P (Classical.propDecidable P)
theorem down {P : Nat → Prop} {n : Nat} (h0 : P n) (hs : ∀ k, k < n → P (k + 1) → P k) : P 0 := by
  have h : ∀ m k, k + m = n → P k := by
    intro m
    induction m with
    | zero => intro k hk; obtain rfl : k = n := by omega
              exact h0
    | succ m ih => intro k hk; exact hs k (by omega) (ih (k + 1) (by omega))
  exact h n 0 (by omega)
/-- edges a k - b k of a kind: sets of points that hold both ends of an edge or none; all hangs together -/
def cl (n : Nat) (p : Nat → Bool) (a b : Nat → Nat) (F : Nat → Prop) : Prop := ∀ k, k < n → p k = true → F (a k) ∨ F (b k) → F (a k) ∧ F (b k)
def con (n : Nat) (p : Nat → Bool) (a b : Nat → Nat) : Prop := ∀ F : Nat → Prop, cl n p a b F → ∀ j, j < n → p j = true → F (a j) → ∀ k, k < n → p k = true → F (a k)
theorem con_iff {n : Nat} {p : Nat → Bool} {a b : Nat → Nat} {F : Nat → Prop} (hc : cl n p a b F) {t : Nat} (ht : t < n) (hp : p t = true) (hF : F (a t)) (hmin : ∀ E : Nat → Prop, cl n p a b E → E (a t) → ∀ i, F i → E i) : (∀ k, k < n → p k = true → F (a k)) ↔ con n p a b := by
  constructor
  · intro hall E hE j hj pj hEj k hk pk
    by_cases c : E (a t)
    · exact hmin E hE c _ (hall k hk pk)
    · exfalso
      have hU : cl n p a b (fun i => ∃ m, m < n ∧ p m = true ∧ (i = a m ∨ i = b m) ∧ ¬ E (a m)) := by
        intro m hm pm h
        have h1 : ¬ E (a m) := by
          intro hEm
          have hEb := (hE m hm pm (Or.inl hEm)).2
          rcases h with ⟨q, hq, pq, e, hn⟩ | ⟨q, hq, pq, e, hn⟩
          · rcases e with e | e
            · exact hn (by rw [← e]; exact hEm)
            · exact hn (hE q hq pq (Or.inr (by rw [← e]; exact hEm))).1
          · rcases e with e | e
            · exact hn (by rw [← e]; exact hEb)
            · exact hn (hE q hq pq (Or.inr (by rw [← e]; exact hEb))).1
        exact ⟨⟨m, hm, pm, Or.inl rfl, h1⟩, ⟨m, hm, pm, Or.inr rfl, h1⟩⟩
      obtain ⟨q, hq, pq, e, hn⟩ := hmin _ hU ⟨t, ht, hp, Or.inl rfl, c⟩ _ (hall j hj pj)
      rcases e with e | e
      · exact hn (by rw [← e]; exact hEj)
      · exact hn (hE q hq pq (Or.inr (by rw [← e]; exact hEj))).1
  · intro h k hk pk
    exact h F hc t ht hp hF k hk pk
theorem tb2 (a b i : Nat) : (2 ^ a ||| 2 ^ b).testBit i = (decide (i = a) || decide (i = b)) := by
  rw [Nat.testBit_or, Nat.testBit_two_pow, Nat.testBit_two_pow]
  simp [eq_comm]
theorem bo_and (a b F : Nat) : (2 ^ a ||| 2 ^ b) &&& F = 0 ↔ F.testBit a = false ∧ F.testBit b = false := by
  constructor
  · intro h
    have h1 : ∀ i, ((2 ^ a ||| 2 ^ b) &&& F).testBit i = false := fun i => by rw [h]; simp
    have ha := h1 a
    have hb := h1 b
    rw [Nat.testBit_and, tb2] at ha hb
    simpa using And.intro ha hb
  · rintro ⟨h1, h2⟩
    apply Nat.eq_of_testBit_eq
    intro i
    rw [Nat.testBit_and, tb2]
    by_cases e : i = a
    · subst e; simp [h1]
    · by_cases e2 : i = b
      · subst e2; simp [h2]
      · simp [e, e2]
theorem bo_lt {a b : Nat} (ha : a < 6) (hb : b < 6) : 2 ^ a ||| 2 ^ b < 64 := by
  have h1 : 2 ^ a < 2 ^ 6 := Nat.pow_lt_pow_right (by omega) ha
  have h2 : 2 ^ b < 2 ^ 6 := Nat.pow_lt_pow_right (by omega) hb
  exact Nat.or_lt_two_pow (n := 6) h1 h2
theorem or_64 {x y : Nat} (h1 : x < 64) (h2 : y < 64) : x ||| y < 64 := Nat.or_lt_two_pow (n := 6) h1 h2
theorem and_64 {x y : Nat} (h1 : x < 64) : x &&& y < 64 := Nat.lt_of_le_of_lt Nat.and_le_left h1
/-- the ends of a set of two looks -/
def cy_a (T : zs_T) (k : Nat) : Nat := (zs_at T k).1
def cy_b (T : zs_T) (k : Nat) : Nat := (zs_at T k).2.1.getD 0
def cy_o (T : zs_T) (k : Nat) : Nat := 2 ^ cy_a T k ||| 2 ^ cy_b T k
/-- looks that were told once and twice, as far as k -/
def cy_f (T : zs_T) (set : Nat) : Nat → Option (Nat × Nat)
  | 0 => some (0, 0)
  | k + 1 => match cy_f T set k with
    | none => none
    | some q => if set.testBit k = true then (if (zs_at T k).2.1 = none ∨ q.2 &&& cy_o T k ≠ 0 then none else some (q.1 ||| cy_o T k, q.2 ||| (q.1 &&& cy_o T k))) else some q
noncomputable def zs_cyc (T : zs_T) (set : Nat) : Bool := decide (3 ≤ bc set 20) && match cy_f T set T.length with
  | none => false
  | some q => decide (q.1 = q.2) && pB (con T.length (fun k => set.testBit k) (cy_a T) (cy_b T))
theorem cy_none {T : zs_T} {set k : Nat} (h : cy_f T set k = none) (m : Nat) : cy_f T set (k + m) = none := by
  induction m with
  | zero => exact h
  | succ m ih => show (match cy_f T set (k + m) with | none => none | some q => _) = none; rw [ih]
theorem cy_some {T : zs_T} {set : Nat} : ∀ n q, cy_f T set n = some q → (∀ k, k < n → set.testBit k = true → (zs_at T k).2.1 ≠ none) ∧ ∀ i, q.1.testBit i = true ↔ ∃ k, k < n ∧ set.testBit k = true ∧ (i = cy_a T k ∨ i = cy_b T k) := by
  intro n
  induction n with
  | zero =>
    intro q h
    cases h
    exact ⟨fun k hk => by omega, fun i => ⟨fun h => by simp at h, fun ⟨k, hk, _⟩ => by omega⟩⟩
  | succ n ih =>
    intro q h
    simp only [cy_f] at h
    split at h
    · cases h
    · rename_i r e
      obtain ⟨h1, h2⟩ := ih r e
      split at h
      · rename_i c
        split at h
        · cases h
        · rename_i c2
          cases h
          simp only [not_or] at c2
          refine ⟨fun k hk pk => ?_, fun i => ?_⟩
          · by_cases e : k = n
            · rw [e]; exact c2.1
            · exact h1 k (by omega) pk
          · show (r.1 ||| cy_o T n).testBit i = true ↔ _
            rw [Nat.testBit_or, Bool.or_eq_true, h2 i, cy_o, tb2]
            simp only [Bool.or_eq_true, decide_eq_true_eq]
            constructor
            · rintro (⟨k, hk, q1, q2⟩ | q)
              · exact ⟨k, by omega, q1, q2⟩
              · exact ⟨n, by omega, c, q⟩
            · rintro ⟨k, hk, q1, q2⟩
              by_cases e : k = n
              · subst e; exact Or.inr q2
              · exact Or.inl ⟨k, by omega, q1, q2⟩
      · rename_i c
        cases h
        refine ⟨fun k hk pk => ?_, fun i => ?_⟩
        · by_cases e : k = n
          · subst e; exact absurd pk c
          · exact h1 k (by omega) pk
        · rw [h2 i]
          constructor
          · rintro ⟨k, hk, q1, q2⟩
            exact ⟨k, by omega, q1, q2⟩
          · rintro ⟨k, hk, q1, q2⟩
            by_cases e : k = n
            · subst e; exact absurd q1 c
            · exact ⟨k, by omega, q1, q2⟩
theorem cy_lt {T : zs_T} {L N : Nat} (hT : zs_ok L N T) (hL : L ≤ 6) {set : Nat} : ∀ n, n ≤ T.length → ∀ q, cy_f T set n = some q → q.1 < 64 ∧ q.2 < 64 := by
  intro n
  induction n with
  | zero => intro _ q h; cases h; exact ⟨by decide, by decide⟩
  | succ n ih =>
    intro hn q h
    simp only [cy_f] at h
    split at h
    · cases h
    · rename_i r e
      obtain ⟨h1, h2⟩ := ih (by omega) r e
      split at h
      · split at h
        · cases h
        · rename_i c2
          cases h
          simp only [not_or] at c2
          have hok := ok_get hT (k := n) (by omega)
          have hb : cy_o T n < 64 := by
            unfold cy_o cy_a cy_b
            cases hq : (zs_at T n).2.1 with
            | none => exact absurd hq c2.1
            | some b => exact bo_lt (by omega) (by have := (hok.2.1 b hq).1; simp only [Option.getD_some]; omega)
          exact ⟨or_64 h1 hb, or_64 h2 (and_64 h1)⟩
      · cases h
        exact ⟨h1, h2⟩
/-- one round of what is reached -/
def cy_p (T : zs_T) (set F : Nat) : Nat → Nat
  | 0 => F
  | k + 1 => if set.testBit k = true ∧ cy_o T k &&& cy_p T set F k ≠ 0 then cy_p T set F k ||| cy_o T k else cy_p T set F k
theorem sub_iff {x y : Nat} : x ||| y = x ↔ ∀ i, y.testBit i = true → x.testBit i = true := by
  constructor
  · intro h i hi
    rw [← h, Nat.testBit_or, hi, Bool.or_true]
  · intro h
    apply Nat.eq_of_testBit_eq
    intro i
    rw [Nat.testBit_or]
    cases hy : y.testBit i with
    | false => simp
    | true => simp [h i hy]
theorem cy_p_mono (T : zs_T) (set F : Nat) : ∀ n m, cy_p T set F n ≤ cy_p T set F (n + m) := by
  intro n m
  induction m with
  | zero => exact Nat.le_refl _
  | succ m ih =>
    refine Nat.le_trans ih ?_
    show _ ≤ (if _ then _ else _)
    split
    · exact Nat.left_le_or
    · exact Nat.le_refl _
theorem cy_p_closed {T : zs_T} {set F : Nat} (h : cy_p T set F T.length = F) : cl T.length (fun k => set.testBit k) (cy_a T) (cy_b T) (fun i => F.testBit i = true) := by
  intro k hk pk ht
  have e1 : cy_p T set F k = F := by
    have h1 := cy_p_mono T set F 0 k
    have h2 := cy_p_mono T set F k (T.length - k)
    rw [show k + (T.length - k) = T.length by omega, h] at h2
    rw [Nat.zero_add] at h1
    exact Nat.le_antisymm h2 h1
  have e2 : cy_p T set F (k + 1) = F := by
    have h1 := cy_p_mono T set F 0 (k + 1)
    have h2 := cy_p_mono T set F (k + 1) (T.length - (k + 1))
    rw [show k + 1 + (T.length - (k + 1)) = T.length by omega, h] at h2
    rw [Nat.zero_add] at h1
    exact Nat.le_antisymm h2 h1
  simp only [cy_p, e1] at e2
  rw [if_pos ⟨pk, fun q => by
    have := (bo_and _ _ _).mp q
    rcases ht with g | g
    · rw [this.1] at g; cases g
    · rw [this.2] at g; cases g⟩] at e2
  have e3 := sub_iff.mp e2
  exact ⟨e3 _ (by rw [cy_o, tb2]; simp), e3 _ (by rw [cy_o, tb2]; simp)⟩
/-- what is reached from t alone -/
def cy_i (T : zs_T) (set t F : Nat) : Prop := F < 64 ∧ F.testBit (cy_a T t) = true ∧ ∀ E : Nat → Prop, cl T.length (fun k => set.testBit k) (cy_a T) (cy_b T) E → E (cy_a T t) → ∀ i, F.testBit i = true → E i
theorem cy_i_p {T : zs_T} {set t F : Nat} (hb : ∀ k, k < T.length → set.testBit k = true → cy_o T k < 64) (h : cy_i T set t F) : ∀ n, n ≤ T.length → cy_i T set t (cy_p T set F n) := by
  intro n
  induction n with
  | zero => intro _; exact h
  | succ n ih =>
    intro hn
    obtain ⟨h1, h2, h3⟩ := ih (by omega)
    simp only [cy_p]
    split
    · rename_i c
      refine ⟨or_64 h1 (hb n (by omega) c.1), by rw [Nat.testBit_or, h2]; rfl, fun E hE ht i hi => ?_⟩
      rw [Nat.testBit_or, Bool.or_eq_true] at hi
      rcases hi with hi | hi
      · exact h3 E hE ht i hi
      · have hx : E (cy_a T n) ∨ E (cy_b T n) := by
          by_cases c1 : (cy_p T set F n).testBit (cy_a T n) = true
          · exact Or.inl (h3 E hE ht _ c1)
          · by_cases c2 : (cy_p T set F n).testBit (cy_b T n) = true
            · exact Or.inr (h3 E hE ht _ c2)
            · exact absurd ((bo_and _ _ _).mpr ⟨by simpa using c1, by simpa using c2⟩) c.2
        have hy := hE n (by omega) c.1 hx
        rw [cy_o, tb2] at hi
        simp only [Bool.or_eq_true, decide_eq_true_eq] at hi
        rcases hi with e | e
        · rw [e]; exact hy.1
        · rw [e]; exact hy.2
    · exact ⟨h1, h2, h3⟩
theorem cy_end {T : zs_T} {set t F : Nat} {q : Nat × Nat} (hf : cy_f T set T.length = some q) (ht : t < T.length) (pt : set.testBit t = true) (h : cy_i T set t F) (hc : cl T.length (fun k => set.testBit k) (cy_a T) (cy_b T) (fun i => F.testBit i = true)) : F = q.1 ↔ con T.length (fun k => set.testBit k) (cy_a T) (cy_b T) := by
  rw [← con_iff hc ht pt h.2.1 h.2.2]
  have h2 := (cy_some T.length q hf).2
  constructor
  · intro e k hk pk
    show F.testBit (cy_a T k) = true
    rw [e]
    exact (h2 _).mpr ⟨k, hk, pk, Or.inl rfl⟩
  · intro hall
    apply Nat.eq_of_testBit_eq
    intro i
    apply Bool.eq_iff_iff.mpr
    constructor
    · intro hi
      refine h.2.2 (fun i => q.1.testBit i = true) (fun k hk pk _ => ⟨(h2 _).mpr ⟨k, hk, pk, Or.inl rfl⟩, (h2 _).mpr ⟨k, hk, pk, Or.inr rfl⟩⟩) ((h2 _).mpr ⟨t, ht, pt, Or.inl rfl⟩) i hi
    · intro hi
      obtain ⟨k, hk, pk, e⟩ := (h2 i).mp hi
      have hk1 := hall k hk pk
      rcases e with rfl | rfl
      · exact hk1
      · exact (hc k hk pk (Or.inl hk1)).2
section TW9
variable {G : wq_G} {l : Launch} {o : Nat} {ad : Nat → Nat} {h : wq_H} {s : tw_S} {L N : Nat} {T : zs_T}
theorem cy_o_lt (hT : zs_ok L N T) (hL : L ≤ 6) {k : Nat} (hk : k < T.length) : cy_o T k < 64 := by
  have hok := ok_get hT hk
  unfold cy_o cy_a cy_b
  cases hq : (zs_at T k).2.1 with
  | none => exact bo_lt (by omega) (by simp)
  | some b => exact bo_lt (by omega) (by have := (hok.2.1 b hq).1; simp only [Option.getD_some]; omega)
theorem t_isCycle (ok : tw_ok G o ad) (hq : tr_q s L N T) (x : Int32) : wq_C G l 1 0 0 mX3_isCycle [.ref o, .int x] (tw_h G o ad s h) (tw_qi G o ad h fun r s' => r = b2i (inB x (2 ^ T.length) && zs_cyc T x.toNatClampNeg) ∧ s' = s) := by
  have h8 := tr_8 hq
  have h88 := pow_9 h8
  have h0 : s.2.1 15 0 = nI T.length := hq.1.1
  have hL := hq.2.2.2.2.2.1
  refine wq_C.of pn_X3 (Nat.le_of_ble_eq_true rfl) rfl (vX3_isCycle_0 ok (tw_ld_n 0 rfl (by decide) ?_))
  rw [h0, nI_shl (by omega)]
  refine tw_ci.eq (by decide) (t_within ok 0 x 0 _) ?_
  rw [in_range (n := 2 ^ T.length) (by omega), b2i_0]
  refine ⟨fun c => ⟨by rw [c]; rfl, rfl⟩, fun c => ?_⟩
  simp only [Bool.not_eq_false] at c
  obtain ⟨set, hs, rfl⟩ := inB_of c
  rw [c, nI_clamp (by omega), Bool.true_and]
  refine tw_ci.eq (by decide) (t_bits ok 0 (by omega)) ?_
  have hbc := bc_le set 20
  rw [nI_lit 3, nI_leI (by omega) (by omega)]
  refine ⟨fun c3 => ?_, fun c3 => ⟨by simp [zs_cyc, c3, b2i], rfl⟩⟩
  generalize hQ : (tw_qi G o ad h fun r s' => r = b2i (zs_cyc T set) ∧ s' = s) = Q
  have hsec : ∀ k, k < T.length → (zs_at T k).2.1 ≠ none → ta_sec (zs_at T k).2.1 = nI (cy_b T k) := by
    intro k hk hn
    unfold cy_b
    cases hb : (zs_at T k).2.1 with
    | none => exact absurd hb hn
    | some b => rfl
  have hb6 : ∀ k, k < T.length → cy_a T k < 6 ∧ cy_b T k < 6 := by
    intro k hk
    have hok := ok_get hq.2.2.1 hk
    unfold cy_a cy_b
    refine ⟨by omega, ?_⟩
    cases hb : (zs_at T k).2.1 with
    | none => simp
    | some b => have := (hok.2.1 b hb).1; simp only [Option.getD_some]; omega
  have i1 : ∀ k : Nat, (1 : Int32) + nI k = nI (1 + k) := fun k => by rw [nI_lit 1, nI_add]
  have i9 : ∀ k : Nat, (9 : Int32) + nI k = nI (9 + k) := fun k => by rw [nI_lit 9, nI_add]
  have phase2 : ∀ q t, cy_f T set T.length = some q → q.1 = q.2 → t < T.length → set.testBit t = true → tw_T G l o ad h 1 mX3_isCycle Q 145 [some (.ref o), some (.int (nI set)), some (.int (nI q.1)), none, some (.int (nI (cy_o T t))), some (.int (nI 0)), none, none] [] s := by
    intro q t hf hqq ht pt
    obtain ⟨hne, hbits⟩ := cy_some _ _ hf
    have hq64 := cy_lt hq.2.2.1 hL.2 T.length (Nat.le_refl _) q hf
    have pass : ∀ F, cy_i T set t F → tw_T G l o ad h 1 mX3_isCycle Q 145 [some (.ref o), some (.int (nI set)), some (.int (nI q.1)), none, some (.int (nI (cy_p T set F T.length))), some (.int (nI F)), none, none] [] s → tw_T G l o ad h 1 mX3_isCycle Q 159 [some (.ref o), some (.int (nI set)), some (.int (nI q.1)), none, some (.int (nI F)), some (.int (nI F)), some (.int (nI 0)), none] [] s := by
      intro F hF go
      refine down (P := fun k => tw_T G l o ad h 1 mX3_isCycle Q 159 [some (.ref o), some (.int (nI set)), some (.int (nI q.1)), none, some (.int (nI (cy_p T set F k))), some (.int (nI F)), some (.int (nI k)), none] [] s) (n := T.length) ?_ ?_
      · subst hQ
        refine vX3_isCycle_159 ok (tw_ld_n 0 rfl (by decide) ?_)
        rw [h0]
        exact ⟨fun _ => go, fun c => absurd (Int32.le_refl _) c⟩
      · intro k hk ih
        have hP := cy_i_p (fun k hk _ => cy_o_lt hq.2.2.1 hL.2 hk) hF k (by omega)
        have hP64 := hP.1
        have ho64 := cy_o_lt hq.2.2.1 hL.2 hk
        subst hQ
        refine vX3_isCycle_159 ok (tw_ld_n 0 rfl (by decide) ?_)
        rw [h0]
        refine ⟨fun c => ?_, fun _ => tw_ci.eq (by decide) (t_has ok 0 (by omega) (by omega)) ?_⟩
        · rw [nI_leI (by omega) (by omega)] at c
          omega
        · rw [b2i_0, nI_1]
          refine ⟨fun c => ?_, fun c => ?_⟩
          · have e : cy_p T set F (k + 1) = cy_p T set F k := if_neg (fun z => by rw [c] at z; exact absurd z.1 (by decide))
            simp only [e] at ih
            rw [Int32.or_zero]
            exact ⟨fun _ => ih, fun _ => ih⟩
          · simp only [Bool.not_eq_false] at c
            have hn := hne k hk c
            refine tw_ld_n (1 + k) (i1 k) (by show _ < 346; omega) (tw_ld_n (9 + k) (i9 k) (by show _ < 346; omega) ?_)
            rw [(tr_at hq hk).1, (tr_at hq hk).2.1, hsec k hk hn]
            have hab := hb6 k hk
            rw [show nI (zs_at T k).1 = nI (cy_a T k) from rfl, nI_shl (by omega), nI_shl (by omega), nI_or]
            change (nI (cy_o T k) &&& nI (cy_p T set F k) = 0 → _) ∧ (¬ nI (cy_o T k) &&& nI (cy_p T set F k) = 0 → _)
            rw [nI_and, nI_lit 0, nI_eq (by have := and_64 (y := cy_p T set F k) ho64; omega) (by omega)]
            refine ⟨fun c2 => ?_, fun c2 => ?_⟩
            · have e : cy_p T set F (k + 1) = cy_p T set F k := if_neg (fun z => z.2 c2)
              simp only [e] at ih
              rw [nI_or, Nat.or_zero]
              exact ih
            · have e : cy_p T set F (k + 1) = cy_p T set F k ||| cy_o T k := if_pos ⟨c, c2⟩
              simp only [e] at ih
              rw [← nI_or] at ih
              exact ih
    have key : ∀ n F W, 64 - F ≤ n → cy_i T set t F → W < 64 → (F = W → cy_p T set F T.length = F) → tw_T G l o ad h 1 mX3_isCycle Q 145 [some (.ref o), some (.int (nI set)), some (.int (nI q.1)), none, some (.int (nI F)), some (.int (nI W)), none, none] [] s := by
      intro n
      induction n with
      | zero => intro F W hn hF; have := hF.1; omega
      | succ n ih =>
        intro F W hn hF hW hcl
        have hF64 := hF.1
        have fin : cy_p T set F T.length = F → (¬ nI F = nI q.1 → (fun r s' => r = b2i (zs_cyc T set) ∧ s' = s) 0 s) ∧ (nI F = nI q.1 → (fun r s' => r = b2i (zs_cyc T set) ∧ s' = s) (1 : Int32) s) := by
          intro hc
          have hend := cy_end hf ht pt hF (cy_p_closed hc)
          rw [nI_eq (by omega) (by omega), hend]
          refine ⟨fun c => ⟨?_, rfl⟩, fun c => ⟨?_, rfl⟩⟩
          · simp [zs_cyc, hf, pB_f.mpr c, b2i]
          · simp [zs_cyc, hf, pB_t.mpr c, b2i, c3, hqq]
        by_cases e : F = W
        · subst e
          subst hQ
          exact vX3_isCycle_145 ok ⟨fun _ => fin (hcl rfl), fun c => absurd rfl c⟩
        · have hmono := cy_p_mono T set F 0 T.length
          rw [Nat.zero_add] at hmono
          change F ≤ _ at hmono
          have go := pass F hF (by
            by_cases e2 : cy_p T set F T.length = F
            · rw [e2]
              subst hQ
              exact vX3_isCycle_145 ok ⟨fun _ => fin e2, fun c => absurd rfl c⟩
            · exact ih _ F (by omega) (cy_i_p (fun k hk _ => cy_o_lt hq.2.2.1 hL.2 hk) hF T.length (Nat.le_refl _)) hF64 (fun q => absurd q e2))
          subst hQ
          refine vX3_isCycle_145 ok ⟨fun c => ?_, fun _ => go⟩
          rw [nI_eq (by omega) (by omega)] at c
          exact absurd c e
    have ho := cy_o_lt hq.2.2.1 hL.2 ht
    refine key 64 (cy_o T t) 0 (by omega) ⟨ho, by rw [cy_o, tb2]; simp, fun E hE ha i hi => ?_⟩ (by omega) (fun e => ?_)
    · have hy := hE t ht pt (Or.inl ha)
      rw [cy_o, tb2] at hi
      simp only [Bool.or_eq_true, decide_eq_true_eq] at hi
      rcases hi with e | e
      · rw [e]; exact hy.1
      · rw [e]; exact hy.2
    · have h1 : (cy_o T t).testBit (cy_a T t) = true := by rw [cy_o, tb2]; simp
      rw [e] at h1
      simp at h1
  have key1 : ∀ m k q f, k + m = T.length → cy_f T set k = some q → ((∃ j, j < k ∧ set.testBit j = true ∧ f = cy_o T j) ∨ (f = 0 ∧ ∀ j, j < k → set.testBit j = false)) → tw_T G l o ad h 1 mX3_isCycle Q 38 [some (.ref o), some (.int (nI set)), some (.int (nI q.1)), some (.int (nI q.2)), some (.int (nI f)), some (.int (nI k)), none, none] [] s := by
    intro m
    induction m with
    | zero =>
      intro k q f hk hf hj
      obtain rfl : k = T.length := by omega
      have hq64 := cy_lt hq.2.2.1 hL.2 T.length (Nat.le_refl _) q hf
      rcases hj with ⟨j, hj, pj, rfl⟩ | ⟨-, hj⟩
      · have p2 := fun e => phase2 q j hf e hj pj
        subst hQ
        refine vX3_isCycle_38 ok (tw_ld_n 0 rfl (by decide) ?_)
        rw [h0]
        refine ⟨fun _ => ?_, fun c => absurd (Int32.le_refl _) c⟩
        rw [nI_eq (by omega) (by omega)]
        refine ⟨fun e => p2 e, fun e => ⟨?_, rfl⟩⟩
        simp [zs_cyc, hf, e, b2i]
      · exfalso
        have : bc set 20 = 0 := by
          rw [bc_small (n := T.length) hs (by omega), bc_cnt]
          have hz : ∀ n, n ≤ T.length → cnt (fun k => set.testBit k) n = 0 := by
            intro n
            induction n with
            | zero => intro _; rfl
            | succ n ih => intro hn; simp [cnt, ih (by omega), hj n (by omega)]
          exact hz _ (Nat.le_refl _)
        omega
    | succ m ih =>
      intro k q f hk hf hj
      have hk' : k < T.length := by omega
      have hq64 := cy_lt hq.2.2.1 hL.2 k (by omega) q hf
      have dead : cy_f T set (k + 1) = none → zs_cyc T set = false := by
        intro e
        have := cy_none e (T.length - (k + 1))
        rw [show k + 1 + (T.length - (k + 1)) = T.length by omega] at this
        simp [zs_cyc, this]
      have ihA := fun q' f' a b => ih (k + 1) q' f' (by omega) a b
      clear ih
      subst hQ
      refine vX3_isCycle_38 ok (tw_ld_n 0 rfl (by decide) ?_)
      rw [h0]
      refine ⟨fun c => ?_, fun _ => tw_ci.eq (by decide) (t_has ok 0 (by omega) (by omega)) ?_⟩
      · rw [nI_leI (by omega) (by omega)] at c
        omega
      · rw [b2i_0, nI_1]
        refine ⟨fun c => tw_ld_n (9 + k) (i9 k) (by show _ < 346; omega) ?_, fun c => ?_⟩
        · simp only [Bool.not_eq_false] at c
          rw [(tr_at hq hk').2.1, tr_sec hq hk']
          refine ⟨fun hn => tw_ld_n (1 + k) (i1 k) (by show _ < 346; omega) (tw_ld_n (9 + k) (i9 k) (by show _ < 346; omega) ?_), fun hn => ⟨?_, rfl⟩⟩
          · rw [(tr_at hq hk').1, (tr_at hq hk').2.1, hsec k hk' hn]
            have hab := hb6 k hk'
            rw [show nI (zs_at T k).1 = nI (cy_a T k) from rfl, nI_shl (by omega), nI_shl (by omega), nI_or]
            change (nI q.2 &&& nI (cy_o T k) = 0 → _) ∧ (¬ nI q.2 &&& nI (cy_o T k) = 0 → _)
            rw [nI_and, nI_lit 0, nI_eq (by have := and_64 (y := cy_o T k) hq64.2; omega) (by omega)]
            refine ⟨fun c2 => ?_, fun c2 => ⟨?_, rfl⟩⟩
            · have go := ihA (q.1 ||| cy_o T k, q.2 ||| (q.1 &&& cy_o T k)) (cy_o T k) (by simp [cy_f, hf, c, hn, c2]) (Or.inl ⟨k, by omega, c, rfl⟩)
              rw [← nI_or, ← nI_or, ← nI_and] at go
              exact go
            · rw [dead (by simp [cy_f, hf, c, c2])]; rfl
          · rw [dead (by simp [cy_f, hf, c, hn])]; rfl
        · refine ihA q f (by simp [cy_f, hf, c]) ?_
          rcases hj with ⟨j, hj, pj, e⟩ | ⟨e, hj⟩
          · exact Or.inl ⟨j, by omega, pj, e⟩
          · refine Or.inr ⟨e, fun j hj2 => ?_⟩
            by_cases e2 : j = k
            · rw [e2]; exact c
            · exact hj j (by omega)
  subst hQ
  exact key1 T.length 0 (0, 0) 0 (by omega) rfl (Or.inr ⟨rfl, fun j hj => by omega⟩)
theorem t_cycleOf (ok : tw_ok G o ad) (hq : tr_q s L N T) (i : Int32) : wq_C G l 2 0 0 mX3_cycleOf [.ref o, .int i] (tw_h G o ad s h) (tw_qi G o ad h fun r s' => r = (match nth (fun k => zs_cyc T k) i (2 ^ T.length) with
    | some k => nI k
    | none => nI (cnt (fun k => zs_cyc T k) (2 ^ T.length)) - 1000) ∧ s' = s) := by
  have h8 := tr_8 hq
  have h88 := pow_9 h8
  have h0 : s.2.1 15 0 = nI T.length := hq.1.1
  generalize hP : (fun k => zs_cyc T k) = p
  have hP' : ∀ j, zs_cyc T j = p j := fun j => by rw [← hP]
  refine wq_C.of pn_X3 (Nat.le_of_ble_eq_true rfl) rfl (vX3_cycleOf_0 ok ?_)
  have key : ∀ n j, j + n = 2 ^ T.length → nth p i j = none → tw_T G l o ad h 2 mX3_cycleOf (tw_qi G o ad h fun r s' => r = (match nth p i (2 ^ T.length) with
    | some k => nI k
    | none => nI (cnt p (2 ^ T.length)) - 1000) ∧ s' = s) 4 [some (.ref o), some (.int i), some (.int (nI (cnt p j))), some (.int (nI j))] [] s := by
    intro n
    induction n with
    | zero =>
      intro j hj hn
      obtain rfl : j = 2 ^ T.length := by omega
      refine vX3_cycleOf_4 ok (tw_ld_n 0 rfl (by decide) ?_)
      rw [h0, nI_shl (by omega)]
      refine ⟨fun _ => ⟨?_, rfl⟩, fun c => absurd (Int32.le_refl _) c⟩
      rw [hn]
    | succ n ih =>
      intro j hj hn
      refine vX3_cycleOf_4 ok (tw_ld_n 0 rfl (by decide) ?_)
      rw [h0, nI_shl (by omega)]
      refine ⟨fun c => ?_, fun _ => tw_ci.eq (by decide) (t_isCycle ok hq (nI j)) ?_⟩
      · rw [nI_leI (by omega) (by omega)] at c
        omega
      · rw [inB_nI (by omega), nI_clamp (by omega), hP' j, b2i_0, decide_eq_true (by omega : j < 2 ^ T.length), Bool.true_and]
        refine ⟨fun c => ⟨fun c2 => ?_, fun c2 => ⟨?_, rfl⟩⟩, fun c => ?_⟩
        · simp only [Bool.not_eq_false] at c
          have ih := ih (j + 1) (by omega) (by simp [nth, hn, c2])
          rw [← nI_1] at ih
          have e : cnt p (j + 1) = cnt p j + 1 := by simp [cnt, c]
          rw [e, ← nI_1] at ih
          exact ih
        · simp only [Bool.not_eq_false] at c
          have e : nth p i (j + 1) = some j := by simp [nth, hn, c, c2]
          have e2 := nth_up e n
          rw [show j + 1 + n = 2 ^ T.length by omega] at e2
          rw [e2]
        · have ih := ih (j + 1) (by omega) (by simp [nth, hn, c])
          rw [← nI_1] at ih
          have e : cnt p (j + 1) = cnt p j := by simp [cnt, c]
          rw [e] at ih
          exact ih
  exact key (2 ^ T.length) 0 (by omega) rfl
theorem t_cycles (ok : tw_ok G o ad) (b : Bool) (hb : s.1 14 = b2i b) (hq : b = true → tr_q s L N T) : wq_C G l 3 0 0 mX3_cycles [.ref o] (tw_h G o ad s h) (tw_qi G o ad h (tw_e s (if b then nI (cnt (fun k => zs_cyc T k) (2 ^ T.length)) else -1) (if b then 0 else 1))) := by
  refine wq_C.of pn_X3 (Nat.le_of_ble_eq_true rfl) rfl (vX3_cycles_0 ok (tw_cv.eq (by decide) (t_good ok) ?_))
  rw [tw_g_14, hb, b2i_0]
  refine ⟨fun c => ?_, fun c => ?_⟩
  · subst c
    exact tw_ci.is (by decide) (t_no ok 1) tw_e_no
  · simp only [Bool.not_eq_false] at c
    subst c
    have h88 := pow_9 (tr_8 (hq rfl))
    refine tw_ci.eq (by decide) (t_cycleOf (s := tw_g s) (L := L) (N := N) (T := T) ok (hq rfl) (-1)) ?_
    have hn : ∀ n, n ≤ 256 → nth (fun k => zs_cyc T k) (-1) n = none := by
      intro n
      induction n with
      | zero => intro _; rfl
      | succ n ih =>
        intro h
        have hc := cnt_le (fun k => zs_cyc T k) n
        have : ¬ nI (cnt (fun k => zs_cyc T k) n) = -1 := by
          have : ∀ k, k < 256 → ¬ nI k = -1 := by decide
          exact this _ (by omega)
        simp [nth, ih (by omega), this]
    rw [hn _ (by omega)]
    refine ⟨?_, tw_g_fr s, rfl⟩
    simp only [if_true]
    generalize nI (cnt (fun k => zs_cyc T k) (2 ^ T.length)) = z
    rw [Int32.sub_add_cancel]
theorem t_cycle (ok : tw_ok G o ad) (i : Int32) (b : Bool) (hb : s.1 14 = b2i b) (hq : b = true → tr_q s L N T) : wq_C G l 3 0 0 mX3_cycle [.ref o, .int i] (tw_h G o ad s h) (tw_qi G o ad h fun r s' => match (if b ∧ 0 ≤ i then nth (fun k => zs_cyc T k) i (2 ^ T.length) else none) with
    | some k => tw_e s (nI k) 0 r s'
    | none => tw_e s (-1) 1 r s') := by
  refine wq_C.of pn_X3 (Nat.le_of_ble_eq_true rfl) rfl (vX3_cycle_0 ok (tw_cv.eq (by decide) (t_good ok) ?_))
  rw [tw_g_14, hb, b2i_0]
  refine ⟨fun c => ?_, fun c => ⟨fun c2 => ?_, fun c2 => ?_⟩⟩
  · subst c
    simp only [Bool.false_eq_true, false_and, if_false]
    exact tw_ci.is (by decide) (t_no ok 1) tw_e_no
  · simp only [Bool.not_eq_false] at c
    subst c
    simp only [true_and, if_pos c2]
    have h88 := pow_9 (tr_8 (hq rfl))
    refine tw_ci.eq (by decide) (t_cycleOf (s := tw_g s) (L := L) (N := N) (T := T) ok (hq rfl) i) ?_
    cases hn : nth (fun k => zs_cyc T k) i (2 ^ T.length) with
    | some k =>
      have hk := nth_lt hn
      refine ⟨fun _ => tw_e_g, fun c3 => absurd (nI_pos' (by omega)) c3⟩
    | none =>
      have hc := cnt_le (fun k => zs_cyc T k) (2 ^ T.length)
      refine ⟨fun c3 => ?_, fun _ => tw_ci.is (by decide) (t_no ok 1) tw_e_no⟩
      exfalso
      revert c3
      have : ∀ k, k < 257 → ¬ (0 : Int32) ≤ nI k - 1000 := by decide
      exact this _ (by omega)
  · simp only [Bool.not_eq_false] at c
    subst c
    simp only [true_and, if_neg c2]
    exact tw_ci.is (by decide) (t_no ok 1) tw_e_no
end TW9
