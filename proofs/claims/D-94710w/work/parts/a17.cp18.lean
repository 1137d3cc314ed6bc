/-! THE TABLEAU of the component in the heap; CONTRACTS of the component: the tableau -/
set_option maxRecDepth 100000
theorem pn_X2 : plainName RX2 = true := by decide +kernel
theorem aj_n {G : wq_G} {h : wq_H} {a m : Nat} {f : Nat → Int64} {i : Int32} {F : Int64 → Prop} (ha : h a = some (.inl (G.2.2.1 1, m, .inr (.inl f)))) (n : Nat) (e : i = nI n) (hn : n < m) (hm : m < 2 ^ 31) (q : F (f n)) : wq_aj G h a i F := by
  subst e
  refine ⟨m, f, ha, vp_in_nI hn hm, ?_⟩
  rw [nI_clamp (by omega)]
  exact q
theorem sj_n {G : wq_G} {h : wq_H} {a m : Nat} {f : Nat → Int64} {i : Int32} {x : Int64} {F : wq_H → Prop} (ha : h a = some (.inl (G.2.2.1 1, m, .inr (.inl f)))) (hz : G.1 ≤ a) (n : Nat) (e : i = nI n) (hn : n < m) (hm : m < 2 ^ 31) (q : F (wq_set h a (.inl (G.2.2.1 1, m, .inr (.inl (vp_updL f n x)))))) : wq_sj G h a i x F := by
  subst e
  refine ⟨m, f, ha, hz, vp_in_nI hn hm, ?_⟩
  rw [nI_clamp (by omega)]
  exact q
/-- the program's cells -/
def pgs (G : wq_G) (h : wq_H) (p ce ba : Nat) (m w0 W : Int32) (low : Int64) (f : Nat → Int64) (g : Nat → Int32) : Prop := (G.1 ≤ p ∧ G.1 ≤ ce ∧ G.1 ≤ ba) ∧ h p = some (.inr (1, [.ref ce, .ref ba, .int m, .int w0, .int W, .long low])) ∧ h ce = some (.inl (G.2.2.1 1, 3430, .inr (.inl f))) ∧ h ba = some (.inl (G.2.2.1 0, 33, .inl g))
abbrev pz (p ce ba : Nat) : Nat → Prop := fun a => a = p ∨ a = ce ∨ a = ba
section PGS
variable {G : wq_G} {h : wq_H} {p ce ba : Nat} {m w0 W : Int32} {low : Int64} {f : Nat → Int64} {g : Nat → Int32}
theorem pgs.ne (k : pgs G h p ce ba m w0 W low f g) : p ≠ ce ∧ p ≠ ba ∧ ce ≠ ba := by
  obtain ⟨-, k1, k2, k3⟩ := k
  refine ⟨fun q => ?_, fun q => ?_, fun q => ?_⟩
  · rw [q, k2] at k1; cases k1
  · rw [q, k3] at k1; cases k1
  · rw [q, k3] at k2; simp at k2
theorem pgs.sc (k : pgs G h p ce ba m w0 W low f g) (f' : Nat → Int64) : pgs G (wq_set h ce (.inl (G.2.2.1 1, 3430, .inr (.inl f')))) p ce ba m w0 W low f' g :=
  ⟨k.1, (wq_set_ne k.ne.1).trans k.2.1, wq_set_eq, (wq_set_ne k.ne.2.2.symm).trans k.2.2.2⟩
theorem pgs.sb (k : pgs G h p ce ba m w0 W low f g) (g' : Nat → Int32) : pgs G (wq_set h ba (.inl (G.2.2.1 0, 33, .inl g'))) p ce ba m w0 W low f g' :=
  ⟨k.1, (wq_set_ne k.ne.2.1).trans k.2.1, (wq_set_ne k.ne.2.2).trans k.2.2.1, wq_set_eq⟩
theorem pgs.sp (k : pgs G h p ce ba m w0 W low f g) (m' w0' W' : Int32) (low' : Int64) : pgs G (wq_set h p (.inr (1, [.ref ce, .ref ba, .int m', .int w0', .int W', .long low']))) p ce ba m' w0' W' low' f g :=
  ⟨k.1, wq_set_eq, (wq_set_ne k.ne.1.symm).trans k.2.2.1, (wq_set_ne k.ne.2.1.symm).trans k.2.2.2⟩
end PGS
/-- what stands while the tableau is written -/
def cu_i (G : wq_G) (h0 : wq_H) (p ce ba : Nat) (m w0 W : Int32) (low : Int64) (g : Nat → Int32) (t : Nat → Nat → Int64) (h : wq_H) : Prop := hx (pz p ce ba) h0 h ∧ ∃ f, pgs G h p ce ba m w0 W low f g ∧ ∀ r c, c < 98 → f (98 * r + c) = t r c
section CP18
variable {G : wq_G} {l : Launch} {d C S : Nat} {h h0 : wq_H} {p ce ba : Nat} {m w0 W : Int32} {low : Int64} {f : Nat → Int64} {g : Nat → Int32} {t t' : Nat → Nat → Int64}
theorem c_pat (k : pgs G h p ce ba m w0 W low f g) {r c : Nat} (hr : 98 * r + c < 3430) : wq_C G l 0 0 0 mX2_at [.ref p, .int (nI r), .int (nI c)] h (wq_qj fun x h' => x = f (98 * r + c) ∧ h' = h) :=
  wq_C.of pn_X2 (Nat.le_of_ble_eq_true rfl) rfl (vX2_at_0 (gR1 k.2.1 rfl (aj_n k.2.2.1 (98 * r + c) (by rw [nI_lit 98, nI_mul, nI_add, Nat.mul_comm]) hr (by omega) ⟨rfl, rfl⟩)))
theorem c_pput (k : pgs G h p ce ba m w0 W low f g) {r c : Nat} (hr : 98 * r + c < 3430) (x : Int64) : wq_C G l 0 0 0 mX2_put [.ref p, .int (nI r), .int (nI c), .long x] h (wq_qv fun h' => h' = wq_set h ce (.inl (G.2.2.1 1, 3430, .inr (.inl (vp_updL f (98 * r + c) x))))) :=
  wq_C.of pn_X2 (Nat.le_of_ble_eq_true rfl) rfl (vX2_put_0 (gR1 k.2.1 rfl (sj_n k.2.2.1 k.1.2.1 (98 * r + c) (by rw [nI_lit 98, nI_mul, nI_add, Nat.mul_comm]) hr (by omega) rfl)))
theorem cu_put (k : cu_i G h0 p ce ba m w0 W low g t h) (hd : 0 < d) {i j : Nat} (hi : i < 35) (hj : j < 98) {x : Int64} {F : wq_H → Nat → Nat → Prop} (q : ∀ h2, cu_i G h0 p ce ba m w0 W low g (fun r c => if r = i ∧ c = j then x else t r c) h2 → F h2 C S) : ∃ fs : List Value, h p = some (.inr (1, fs)) ∧ wq_cw G l d C S mX2_put [.ref p, .int (nI i), .int (nI j), .long x] h F := by
  obtain ⟨k1, f, k2, k3⟩ := k
  refine ⟨_, k2.2.1, wq_cw.use hd (Nat.zero_le _) (Nat.zero_le _) (c_pput k2 (r := i) (c := j) (by omega) x) ?_⟩
  rintro h2 rfl
  refine q _ ⟨k1.t (hx.set (Or.inl (Or.inr (Or.inl rfl)))), _, k2.sc _, fun r c hc => ?_⟩
  show (if 98 * r + c = 98 * i + j then x else f (98 * r + c)) = if r = i ∧ c = j then x else t r c
  by_cases e : r = i ∧ c = j
  · rw [if_pos (by omega), if_pos e]
  · rw [if_neg (by omega), if_neg e]
    exact k3 r c hc
theorem cu_at (k : cu_i G h0 p ce ba m w0 W low g t h) (hd : 0 < d) {i j : Nat} {x : Int64} (hi : i < 35) (hj : j < 98) (e : t i j = x) {F : Int64 → wq_H → Nat → Nat → Prop} (q : F x h C S) : ∃ fs : List Value, h p = some (.inr (1, fs)) ∧ wq_cj G l d C S mX2_at [.ref p, .int (nI i), .int (nI j)] h F := by
  obtain ⟨k1, f, k2, k3⟩ := k
  refine ⟨_, k2.2.1, wq_cj.eq hd (c_pat k2 (r := i) (c := j) (by omega)) ?_⟩
  rw [k3 i j hj, e]
  exact q
theorem cu_ext (k : cu_i G h0 p ce ba m w0 W low g t h) (e : ∀ r c, c < 98 → t r c = t' r c) : cu_i G h0 p ce ba m w0 W low g t' h := by
  obtain ⟨k1, f, k2, k3⟩ := k
  exact ⟨k1, f, k2, fun r c hc => (k3 r c hc).trans (e r c hc)⟩
theorem cu_m (k : cu_i G h0 p ce ba m w0 W low g t h) {F : Int32 → Prop} (q : F m) : wq_gI h p [(1, 2)] F := by
  obtain ⟨k1, f, k2, k3⟩ := k
  exact gI1 k2.2.1 rfl q
theorem cu_n (k : cu_i G h0 p ce ba m w0 W low g t h) {F : Int32 → Prop} (q : F w0) : wq_gI h p [(1, 3)] F := by
  obtain ⟨k1, f, k2, k3⟩ := k
  exact gI1 k2.2.1 rfl q
theorem cu_W (k : cu_i G h0 p ce ba m w0 W low g t h) {F : Int32 → Prop} (q : F W) : wq_gI h p [(1, 4)] F := by
  obtain ⟨k1, f, k2, k3⟩ := k
  exact gI1 k2.2.1 rfl q
theorem cu_low (k : cu_i G h0 p ce ba m w0 W low g t h) {F : Int64 → Prop} (q : F low) : wq_gJ h p [(1, 5)] F := by
  obtain ⟨k1, f, k2, k3⟩ := k
  exact gJ1 k2.2.1 rfl q
end CP18
section CP18b
variable {G : wq_G} {l : Launch} {d C S : Nat} {h h0 : wq_H} {p ce ba : Nat} {m W : Nat} {w0 : Int32} {low : Int64} {g : Nat → Int32} {t : Nat → Nat → Int64}
theorem c_turns {row col : Nat} (hs : cu_i G h0 p ce ba (nI m) w0 (nI W) low g t h) (hm : m ≤ 33) (hW : W ≤ 97) (hl : ¬ low = 0) (hr : row < m) (hc : col < W) : wq_C G l 1 0 0 mX2_turns [.ref p, .int (nI row), .int (nI col)] h (wq_qv fun h' => cu_i G h0 p ce ba (nI m) w0 (nI W) (t row col) (upd g row (nI col)) (fun r c => if r < m + 2 ∧ c ≤ W then lp_pv t low row col r c else t r c) h') := by
  generalize hK : (fun h' : wq_H => cu_i G h0 p ce ba (nI m) w0 (nI W) (t row col) (upd g row (nI col)) (fun r c => if r < m + 2 ∧ c ≤ W then lp_pv t low row col r c else t r c) h') = K
  have outer : ∀ n i h', i + n = m + 2 → cu_i G h0 p ce ba (nI m) w0 (nI W) low g (fun r c => if r < i ∧ c ≤ W then lp_pv t low row col r c else t r c) h' → wq_T G l 1 mX2_turns (wq_qv K) 10 [some (.ref p), some (.int (nI row)), some (.int (nI col)), some (.long (t row col)), none, some (.int (nI i)), none, none, none] [] h' 0 0 := by
    intro n
    induction n with
    | zero =>
      intro i h' hi hs
      obtain rfl : i = m + 2 := by omega
      refine vX2_turns_10 (cu_m hs ⟨fun _ => ?_, fun c => ?_⟩)
      · obtain ⟨k1, f, k2, k3⟩ := hs
        have n3 := k2.ne
        refine pf1 k2.2.1 k2.1.1 (by simp) (gR1 wq_set_eq rfl (si_n ((wq_set_ne n3.2.1.symm).trans k2.2.2.2) k2.1.2.2 row rfl (by omega) (by omega) ?_))
        subst hK
        exact ⟨(k1.t (hx.set (Or.inl (Or.inl rfl)))).t (hx.set (Or.inl (Or.inr (Or.inr rfl)))), f, (k2.sp (nI m) w0 (nI W) (t row col)).sb _, k3⟩
      · rw [nI_lit 2, nI_add] at c
        exact absurd (Int32.le_refl _) c
    | succ n ih =>
      intro i h' hi hs
      refine vX2_turns_10 (cu_m hs ⟨fun c => ?_, fun _ => ⟨fun c => ?_, fun c => ?_⟩⟩)
      · rw [nI_lit 2, nI_add, nI_leI (by omega) (by omega)] at c
        omega
      · rw [nI_eq (by omega) (by omega)] at c
        refine cu_at hs (by decide) (i := i) (j := col) (x := t i col) (by omega) (by omega) (if_neg (by omega)) ?_
        have inner : ∀ k j h', j + k = W + 1 → cu_i G h0 p ce ba (nI m) w0 (nI W) low g (fun r c => if (r < i ∨ r = i ∧ c < j) ∧ c ≤ W then lp_pv t low row col r c else t r c) h' → wq_T G l 1 mX2_turns (wq_qv K) 42 [some (.ref p), some (.int (nI row)), some (.int (nI col)), some (.long (t row col)), none, some (.int (nI i)), some (.long (t i col)), none, some (.int (nI j))] [] h' 0 0 := by
          intro k
          induction k with
          | zero =>
            intro j h' hj hs
            obtain rfl : j = W + 1 := by omega
            refine vX2_turns_42 (cu_W hs ⟨fun _ => ?_, fun c => ?_⟩)
            · rw [nI_1]
              refine ih (i + 1) h' (by omega) (cu_ext hs fun r c hc => ?_)
              try dsimp only
              by_cases q : r < i + 1 ∧ c ≤ W
              · rw [if_pos q, if_pos (by omega)]
              · rw [if_neg q, if_neg (by omega)]
            · rw [nI_ltI (by omega) (by omega)] at c
              omega
          | succ k ih2 =>
            intro j h' hj hs
            refine vX2_turns_42 (cu_W hs ⟨fun c => ?_, fun _ => ?_⟩)
            · rw [nI_ltI (by omega) (by omega)] at c
              omega
            · refine cu_at hs (by decide) (i := i) (j := j) (x := t i j) (by omega) (by omega) (if_neg (by omega)) ?_
              refine cu_at hs (by decide) (i := row) (j := j) (x := t row j) (by omega) (by omega) ?_ (cu_low hs ⟨hl, ?_⟩)
              · by_cases q : (row < i ∨ row = i ∧ j < j) ∧ j ≤ W
                · exact (if_pos q).trans (if_pos rfl)
                · exact if_neg q
              · refine cu_put hs (by decide) (i := i) (j := j) (by omega) (by omega) fun h2 hs2 => ?_
                rw [nI_1]
                refine ih2 (j + 1) h2 (by omega) (cu_ext hs2 fun r c hc => ?_)
                try dsimp only
                by_cases q : r = i ∧ c = j
                · obtain ⟨rfl, rfl⟩ := q
                  rw [if_pos ⟨rfl, rfl⟩, if_pos (by omega)]
                  unfold lp_pv
                  rw [if_neg (by omega)]
                · rw [if_neg q]
                  by_cases q2 : (r < i ∨ r = i ∧ c < j) ∧ c ≤ W
                  · rw [if_pos q2, if_pos (by omega)]
                  · rw [if_neg q2, if_neg (by omega)]
        refine inner (W + 1) 0 h' (by omega) (cu_ext hs fun r c hc => ?_)
        try dsimp only
        by_cases q : r < i ∧ c ≤ W
        · rw [if_pos q, if_pos (by omega)]
        · rw [if_neg q, if_neg (by omega)]
      · rw [nI_eq (by omega) (by omega)] at c
        rw [nI_1]
        refine ih (i + 1) h' (by omega) (cu_ext hs fun r c hc => ?_)
        try dsimp only
        by_cases q : r < i ∧ c ≤ W
        · rw [if_pos q, if_pos (by omega)]
        · rw [if_neg q]
          by_cases q2 : r < i + 1 ∧ c ≤ W
          · rw [if_pos q2]
            unfold lp_pv
            rw [if_pos (by omega)]
          · rw [if_neg q2]
  refine wq_C.of pn_X2 (Nat.le_of_ble_eq_true rfl) rfl (vX2_turns_0 (cu_at hs (by decide) (i := row) (j := col) (x := t row col) (by omega) (by omega) rfl ?_))
  exact outer (m + 2) 0 h (by omega) (cu_ext hs fun r c hc => (if_neg (by omega)).symm)
theorem c_isFree (hs : cu_i G h0 p ce ba (nI m) w0 (nI W) low g t h) (hm : m ≤ 33) (hW : W ≤ 97) {c : Nat} (hc : c < W) (s : Bool) : wq_C G l 1 0 0 mX2_isFree [.ref p, .int (nI c), .int (b2i s)] h (wq_qi fun r h' => r = b2i (!s || decide (t m c = 0)) ∧ h' = h) := by
  refine wq_C.of pn_X2 (Nat.le_of_ble_eq_true rfl) rfl (vX2_isFree_0 ⟨fun z => ?_, fun z => cu_m hs (cu_at hs (by decide) (i := m) (j := c) (by omega) (by omega) rfl ⟨fun z2 => ?_, fun z2 => ?_⟩)⟩)
  · rw [b2i_0] at z
    subst z
    exact ⟨rfl, rfl⟩
  · rw [b2i_0, Bool.not_eq_false] at z
    subst z
    rw [lg_cmp_eq] at z2
    exact ⟨by simp [z2, b2i], rfl⟩
  · rw [b2i_0, Bool.not_eq_false] at z
    subst z
    rw [lg_cmp_eq] at z2
    exact ⟨by simp [z2, b2i], rfl⟩
theorem c_enters (hs : cu_i G h0 p ce ba (nI m) w0 (nI W) low g t h) (hm : m ≤ 33) (hW : W ≤ 97) (s : Bool) {q : Nat} (hq : q = if s then m + 1 else m) : wq_C G l 2 0 0 mX2_enters [.ref p, .int (b2i s)] h (wq_qi fun r h' => h' = h ∧ ((r = -1 ∧ ∀ c, c < W → t q c < 0 → (!s || decide (t m c = 0)) = false) ∨ ∃ c, r = nI c ∧ c < W ∧ t q c < 0 ∧ (!s || decide (t m c = 0)) = true ∧ ∀ j, j < c → t q j < 0 → (!s || decide (t m j = 0)) = false)) := by
  generalize hK : (fun (r : Int32) (h' : wq_H) => h' = h ∧ ((r = -1 ∧ ∀ c, c < W → t q c < 0 → (!s || decide (t m c = 0)) = false) ∨ ∃ c, r = nI c ∧ c < W ∧ t q c < 0 ∧ (!s || decide (t m c = 0)) = true ∧ ∀ j, j < c → t q j < 0 → (!s || decide (t m j = 0)) = false)) = K
  have loop : ∀ n c, c + n = W → (∀ j, j < c → t q j < 0 → (!s || decide (t m j = 0)) = false) → wq_T G l 2 mX2_enters (wq_qi K) 20 [some (.ref p), some (.int (b2i s)), some (.int (nI q)), some (.int (nI c))] [] h 0 0 := by
    intro n
    induction n with
    | zero =>
      intro c hc hn
      obtain rfl : c = W := by omega
      refine vX2_enters_20 (cu_W hs ⟨fun _ => ?_, fun z => absurd (Int32.le_refl _) z⟩)
      subst hK
      exact ⟨rfl, Or.inl ⟨rfl, hn⟩⟩
    | succ n ih =>
      intro c hc hn
      have hq34 : q < 35 := by rw [hq]; split <;> omega
      refine vX2_enters_20 (cu_W hs ⟨fun z => ?_, fun _ => cu_at hs (by decide) (i := q) (j := c) hq34 (by omega) rfl ⟨fun z => ?_, fun z => ?_⟩⟩)
      · rw [nI_leI (by omega) (by omega)] at z
        omega
      · rw [lg_cmp_ge] at z
        rw [nI_1]
        refine ih (c + 1) (by omega) fun j hj hlt => ?_
        by_cases e : j = c
        · subst e; exact absurd hlt (Int64.not_lt.mpr z)
        · exact hn j (by omega) hlt
      · rw [lg_cmp_ge, Int64.not_le] at z
        obtain ⟨k1, f, k2, k3⟩ := id hs
        refine ⟨_, k2.2.1, wq_ci.eq (by decide) (c_isFree hs hm hW (c := c) (by omega) s) ⟨fun z2 => ?_, fun z2 => ?_⟩⟩
        · rw [b2i_0] at z2
          rw [nI_1]
          refine ih (c + 1) (by omega) fun j hj hlt => ?_
          by_cases e : j = c
          · subst e; exact z2
          · exact hn j (by omega) hlt
        · rw [b2i_0, Bool.not_eq_false] at z2
          subst hK
          exact ⟨rfl, Or.inr ⟨c, rfl, by omega, z, z2, hn⟩⟩
  have start := loop W 0 (by omega) (fun j hj => absurd hj (Nat.not_lt_zero _))
  refine wq_C.of pn_X2 (Nat.le_of_ble_eq_true rfl) rfl (vX2_enters_0 ⟨fun z => cu_m hs ?_, fun z => cu_m hs ?_⟩)
  · rw [b2i_0] at z
    have e : q = m := by rw [hq, z]; rfl
    rw [e] at start
    exact start
  · rw [b2i_0, Bool.not_eq_false] at z
    have e : q = m + 1 := by rw [hq, z]; rfl
    rw [e] at start
    rw [nI_1]
    exact start
theorem c_leaves {A : Nat → Nat → Int} {q col : Nat} {b : Nat → Nat} (hs : cu_i G h0 p ce ba (nI m) w0 (nI W) low g t h) (hm : m ≤ 33) (hW : W ≤ 97) (hb : ∀ r, r < m → g r = nI (b r)) (iv : lp_iv A m W b q t low) (bs : lp_bs A m W) (sok : sx_ok A m W b) (hc : col < W) (hp : ∃ r, r < m ∧ 0 < sx_t A m b r col) : wq_C G l 1 0 0 mX2_leaves [.ref p, .int (nI col)] h (wq_qi fun r h' => (∃ r0, r = nI r0 ∧ sx_lea A m W b col r0) ∧ h' = h) := by
  refine wq_C.of pn_X2 (Nat.le_of_ble_eq_true rfl) rfl (vX2_leaves_0 ?_)
  generalize hQ : (fun (r : Int32) (h' : wq_H) => (∃ r0, r = nI r0 ∧ sx_lea A m W b col r0) ∧ h' = h) = Q
  have hy : ∀ r, r < m → t r col = jJ (sx_t A m b r col) := fun r hr => iv.2.1 r col hr (by omega)
  have hw : ∀ r, r < m → t r W = jJ (sx_t A m b r W) := fun r hr => iv.2.1 r W hr (by omega)
  have by1 : ∀ r, r < m → (sx_t A m b r col).natAbs ≤ 100000000 := fun r hr => (bs.2 b sok.2.1 r (by omega)).1 col hc
  have bx1 : ∀ r, r < m → (sx_t A m b r W).natAbs ≤ 18000000000 := fun r hr => (bs.2 b sok.2.1 r (by omega)).2
  have two : ∀ n i r, i + n = m → lpb (fun j => sx_t A m b j W) (fun j => sx_t A m b j col) b i r → wq_T G l 1 mX2_leaves (wq_qi Q) 4 [some (.ref p), some (.int (nI col)), some (.int (nI r)), some (.int (nI i)), none, none] [] h 0 0 := by
    intro n
    induction n with
    | zero =>
      intro i r hi hl
      obtain rfl : i = m := by omega
      subst hQ
      exact vX2_leaves_4 (cu_m hs ⟨fun _ => ⟨⟨r, rfl, hl⟩, rfl⟩, fun c => absurd (Int32.le_refl _) c⟩)
    | succ n ih =>
      intro i r hi hl
      have hr := hl.1
      refine vX2_leaves_4 (cu_m hs ⟨fun z => ?_, fun _ => cu_at hs (by decide) (i := i) (j := col) (by omega) (by omega) (hy i (by omega)) ⟨fun z => ⟨fun _ => ?_, fun z2 => absurd z2 (nI_ne1 (by omega))⟩, fun z => ?_⟩⟩)
      · rw [nI_leI (by omega) (by omega)] at z
        omega
      · rw [lg_cmp_gt, jJ_lit 0, jJ_lt (by omega) (by omega) (by have := by1 i (by omega); omega) (by have := by1 i (by omega); omega)] at z
        refine cu_W hs (cu_at hs (by decide) (i := i) (j := W) (by omega) (by omega) (hw i (by omega)) (cu_at hs (by decide) (i := r) (j := col) (by omega) (by omega) (hy r (by omega)) (cu_W hs (cu_at hs (by decide) (i := r) (j := W) (by omega) (by omega) (hw r (by omega)) (cu_at hs (by decide) (i := i) (j := col) (by omega) (by omega) (hy i (by omega)) ?_)))))
        rw [jJ_mul, jJ_mul, jJ_sub, lg_cmp_lt, lg_cmp_eq, jJ_lit 0]
        have p1 := nab_mul (bx1 i (by omega)) (by1 r (by omega))
        have p2 := nab_mul (bx1 r (by omega)) (by1 i (by omega))
        rw [jJ_lt (by omega) (by omega) (by omega) (by omega), jJ_inj (by omega) (by omega) (by omega) (by omega)]
        have ib := sok.2.1 i (by omega)
        have rb := sok.2.1 r (by omega)
        obtain ⟨k1, f, k2, k3⟩ := id hs
        refine ⟨fun c3 => ?_, fun c3 => ⟨fun c4 => ?_, fun c4 => gR1 k2.2.1 rfl (ai_n k2.2.2.2 i rfl (by omega) (by omega) (gR1 k2.2.1 rfl (ai_n k2.2.2.2 r rfl (by omega) (by omega) ?_)))⟩⟩
        · rw [nI_1]
          exact ih (i + 1) i (by omega) (lpb_new hl (by simpa using z) (Or.inl (show sx_t A m b i W * sx_t A m b r col < sx_t A m b r W * sx_t A m b i col by omega)))
        · rw [nI_1]
          exact ih (i + 1) r (by omega) (lpb_keep hl (show ¬ sx_t A m b i W * sx_t A m b r col < sx_t A m b r W * sx_t A m b i col by omega) (fun e => absurd (show sx_t A m b i W * sx_t A m b r col - sx_t A m b r W * sx_t A m b i col = ((0 : Nat) : Int) by have e : sx_t A m b i W * sx_t A m b r col = sx_t A m b r W * sx_t A m b i col := e; omega) c4))
        · rw [hb i (by omega), hb r (by omega), nI_leI (by omega) (by omega)]
          refine ⟨fun c5 => ?_, fun c5 => ?_⟩
          · rw [nI_1]
            exact ih (i + 1) r (by omega) (lpb_keep hl (show ¬ sx_t A m b i W * sx_t A m b r col < sx_t A m b r W * sx_t A m b i col by omega) (fun _ => c5))
          · rw [nI_1]
            exact ih (i + 1) i (by omega) (lpb_new hl (by simpa using z) (Or.inr ⟨show sx_t A m b i W * sx_t A m b r col = sx_t A m b r W * sx_t A m b i col by omega, by omega⟩))
      · rw [lg_cmp_gt, jJ_lit 0, jJ_lt (by omega) (by omega) (by have := by1 i (by omega); omega) (by have := by1 i (by omega); omega)] at z
        rw [nI_1]
        exact ih (i + 1) r (by omega) (lpb_skip hl (by simpa using z))
  have one : ∀ n i, i + n = m → (∀ j, j < i → sx_t A m b j col ≤ 0) → wq_T G l 1 mX2_leaves (wq_qi Q) 4 [some (.ref p), some (.int (nI col)), some (.int (-1)), some (.int (nI i)), none, none] [] h 0 0 := by
    intro n
    induction n with
    | zero =>
      intro i hi hl
      obtain rfl : i = m := by omega
      obtain ⟨r, hr, hp⟩ := hp
      have := hl r hr
      omega
    | succ n ih =>
      intro i hi hl
      refine vX2_leaves_4 (cu_m hs ⟨fun z => ?_, fun _ => cu_at hs (by decide) (i := i) (j := col) (by omega) (by omega) (hy i (by omega)) ⟨fun z => ⟨fun z2 => absurd rfl z2, fun _ => ?_⟩, fun z => ?_⟩⟩)
      · rw [nI_leI (by omega) (by omega)] at z
        omega
      · rw [lg_cmp_gt, jJ_lit 0, jJ_lt (by omega) (by omega) (by have := by1 i (by omega); omega) (by have := by1 i (by omega); omega)] at z
        rw [nI_1]
        exact two n (i + 1) i (by omega) (lpb_first hl (by simpa using z))
      · rw [lg_cmp_gt, jJ_lit 0, jJ_lt (by omega) (by omega) (by have := by1 i (by omega); omega) (by have := by1 i (by omega); omega)] at z
        rw [nI_1]
        refine ih (i + 1) (by omega) fun j hj => ?_
        by_cases e : j = i
        · subst e; omega
        · exact hl j (by omega)
  exact one m 0 (by omega) (fun j hj => by omega)
theorem c_most {A A1 A2 : Nat → Nat → Int} {q : Nat} {fr : Nat → Bool} {b0 : Nat → Nat} (hs : cu_i G h0 p ce ba (nI m) w0 (nI W) low g t h) (hm : m ≤ 33) (hW : W ≤ 97) (s : Bool) (hq : (s = false ∧ q = m ∧ ∀ c, fr c = true) ∨ (s = true ∧ q = m + 1)) (bs : lp_bs A m W) (bs1 : lp_bs A1 m W) (bs2 : lp_bs A2 m W) (hA : ∀ r c, r < m → c < W → 0 ≤ A c r) (hA2 : ∀ c, c < W → ∃ i, i < m ∧ 0 < A c i) (hb : ∀ r, r < m → g r = nI (b0 r)) (up : lp_up A A1 m W q fr b0 t low) (ex : s = false → lp_iv A2 m W b0 (m + 1) t low) : wq_C G l 3 0 0 mX2_most [.ref p, .int (b2i s)] h (wq_qj fun x h' => ∃ b low' g' t', cu_i G h0 p ce ba (nI m) w0 (nI W) low' g' t' h' ∧ (∀ r, r < m → g' r = nI (b r)) ∧ lp_up A A1 m W q fr b t' low' ∧ (s = false → lp_iv A2 m W b (m + 1) t' low') ∧ (∀ c, c < W → fr c = true → 0 ≤ sx_t A m b m c) ∧ x = t' q W) := by
  generalize hK : (fun (x : Int64) (h' : wq_H) => ∃ b low' g' t', cu_i G h0 p ce ba (nI m) w0 (nI W) low' g' t' h' ∧ (∀ r, r < m → g' r = nI (b r)) ∧ lp_up A A1 m W q fr b t' low' ∧ (s = false → lp_iv A2 m W b (m + 1) t' low') ∧ (∀ c, c < W → fr c = true → 0 ≤ sx_t A m b m c) ∧ x = t' q W) = K
  have hq2 : q = m ∨ q = m + 1 := by omega
  have hqs : q = if s then m + 1 else m := by
    rcases hq with ⟨z1, z2, -⟩ | ⟨z1, z2⟩
    · rw [z1]; exact z2
    · rw [z1]; exact z2
  have main : ∀ b, sx_ok A m W b → ∀ (h' : wq_H) (low' : Int64) (g' : Nat → Int32) (t' : Nat → Nat → Int64), cu_i G h0 p ce ba (nI m) w0 (nI W) low' g' t' h' → (∀ r, r < m → g' r = nI (b r)) → lp_up A A1 m W q fr b t' low' → (s = false → lp_iv A2 m W b (m + 1) t' low') → ∃ fs : List Value, h' p = some (.inr (1, fs)) ∧ wq_ci G l 3 0 0 mX2_enters [.ref p, .int (b2i s)] h' (fun y h1 C2 S3 => wq_T G l 3 mX2_most (wq_qj K) 6 [some (.ref p), some (.int (b2i s)), some (.int y)] [] h1 C2 S3) := by
    intro b sok0
    refine sx_ind (A := A) (m := m) (W := W) (fr := fr) (P := fun b => ∀ (h' : wq_H) (low' : Int64) (g' : Nat → Int32) (t' : Nat → Nat → Int64), cu_i G h0 p ce ba (nI m) w0 (nI W) low' g' t' h' → (∀ r, r < m → g' r = nI (b r)) → lp_up A A1 m W q fr b t' low' → (s = false → lp_iv A2 m W b (m + 1) t' low') → ∃ fs : List Value, h' p = some (.inr (1, fs)) ∧ wq_ci G l 3 0 0 mX2_enters [.ref p, .int (b2i s)] h' (fun y h1 C2 S3 => wq_T G l 3 mX2_most (wq_qj K) 6 [some (.ref p), some (.int (b2i s)), some (.int y)] [] h1 C2 S3)) ?_ sok0
    intro b sok ih h' low' g' t' hs hb up ex
    obtain ⟨iv, iv1, -, hfr⟩ := id up
    have ok1 := iv.ok iv1 bs bs1 sok
    obtain ⟨k1, f, k2, k3⟩ := id hs
    have hD : ¬ low' = 0 := by
      have h1 := bs.D sok.2.1
      have h2 := sok.1
      rw [iv.1, jJ_lit 0, jJ_inj (by omega) (by omega) (by omega) (by omega)]
      omega
    have hfc : ∀ c, c < W → (!s || decide (t' m c = 0)) = fr c := by
      intro c hc
      rcases hq with ⟨z1, z2, z3⟩ | ⟨z1, z2⟩
      · rw [z1, z3 c]; rfl
      · have w1 := iv1.zero bs1 ok1 hc
        have w2 := (hfr z2 c hc).2
        rw [z1]
        cases e : fr c with
        | true => simp [w1.mpr (w2.mpr e)]
        | false =>
          have : ¬ t' m c = 0 := fun y => by
            have := w2.mp (w1.mp y)
            rw [e] at this; cases this
          simp [this]
    refine ⟨_, k2.2.1, wq_ci.use (by decide) (Nat.zero_le _) (Nat.zero_le _) (c_enters hs hm hW s hqs) ?_⟩
    rintro y h1 ⟨rfl, ⟨rfl, hn⟩ | ⟨j, rfl, hj, hneg, hfree, hmin⟩⟩
    · have none : ∀ c, c < W → fr c = true → 0 ≤ sx_t A m b m c := by
        intro c hc hf
        apply Decidable.byContradiction
        intro z
        have := hn c hc ((iv.neg bs sok hc).mpr (by omega))
        rw [hfc c hc, hf] at this
        cases this
      have fin : K (t' q W) h1 := by
        subst hK
        exact ⟨b, low', g', t', hs, hb, up, ex, none, rfl⟩
      refine vX2_most_6 ⟨fun _ => ⟨fun z => cu_m hs (cu_W hs ?_), fun z => cu_m hs (cu_W hs ?_)⟩, fun z => absurd rfl z⟩
      · rw [b2i_0] at z
        rw [z] at hqs
        have e : q = m := hqs
        rw [e] at fin
        exact cu_at hs (by decide) (i := m) (j := W) (by omega) (by omega) rfl fin
      · rw [b2i_0, Bool.not_eq_false] at z
        rw [z] at hqs
        have e : q = m + 1 := hqs
        rw [e] at fin
        rw [nI_1]
        exact cu_at hs (by decide) (i := m + 1) (j := W) (by omega) (by omega) rfl fin
    · have he : sx_ent A m W fr b j := by
        refine ⟨hj, ?_, (iv.neg bs sok hj).mp hneg, fun c hc hf => ?_⟩
        · rw [← hfc j hj]; exact hfree
        · apply Decidable.byContradiction
          intro z
          have := hmin c hc ((iv.neg bs sok (by omega)).mpr (by omega))
          rw [hfc c (by omega), hf] at this
          cases this
      refine vX2_most_6 ⟨fun z => absurd z (nI_ne1 (by omega)), fun _ => ⟨_, k2.2.1, wq_ci.use (by decide) (Nat.zero_le _) (Nat.zero_le _) (c_leaves hs hm hW hb iv bs sok hj (sx_bdd sok hA hj (hA2 j hj))) ?_⟩⟩
      rintro x h2 ⟨⟨r, rfl, hl⟩, rfl⟩
      have hr := hl.1
      refine ⟨_, k2.2.1, wq_cw.use (by decide) (Nat.zero_le _) (Nat.zero_le _) (c_turns hs hm hW hD hr hj) fun h3 hs3 => ?_⟩
      refine ih (sx_p b r j) ⟨j, r, he, hl, rfl⟩ h3 _ _ _ hs3 (fun i hi => ?_) (lp_up_p bs bs1 hq2 up he hl rfl fun i c hi hc => if_pos ⟨by omega, hc⟩) (fun z => ?_)
      · unfold upd sx_p
        by_cases e : i = r
        · rw [if_pos e, if_pos e]
        · rw [if_neg e, if_neg e]; exact hb i hi
      · exact (lp_iv_p (ex z) bs2 (iv.ok (ex z) bs bs2 sok) (by omega) hr hj).congr rfl (fun i c hi hc => if_pos ⟨by omega, hc⟩) (fun c hc => if_pos ⟨by omega, hc⟩)
  exact wq_C.of pn_X2 (Nat.le_of_ble_eq_true rfl) rfl (vX2_most_0 (main b0 up.2.2.1 h low g t hs hb up ex))
end CP18b
