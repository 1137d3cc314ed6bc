/-! CONTRACTS of the component: the tableau laid -/
set_option maxRecDepth 100000
/-- while the tableau is laid: what is laid, all else nothing -/
def cyi_ (G : wq_G) (h0 : wq_H) (p ce ba : Nat) (m w0 W : Int32) (low : Int64) (g : Nat → Int32) (A : Nat → Nat → Int) (X : Nat → Nat → Prop) (h : wq_H) : Prop := hx (pz p ce ba) h0 h ∧ ∃ f, pgs G h p ce ba m w0 W low f g ∧ ∀ r c, r < 35 → c < 98 → (X r c → f (98 * r + c) = jJ (A c r)) ∧ (¬ X r c → f (98 * r + c) = 0)
section CP19
variable {G : wq_G} {l : Launch} {d C S : Nat} {h h0 : wq_H} {p ce ba : Nat} {m w0 W : Int32} {low : Int64} {g : Nat → Int32} {A : Nat → Nat → Int} {X X' : Nat → Nat → Prop}
theorem cyput_ (k : cyi_ G h0 p ce ba m w0 W low g A X h) (hd : 0 < d) {i j : Nat} (hi : i < 35) (hj : j < 98) {x : Int64} (e : x = jJ (A j i)) {F : wq_H → Nat → Nat → Prop} (q : ∀ h2, cyi_ G h0 p ce ba m w0 W low g A (fun r c => r = i ∧ c = j ∨ X r c) h2 → F h2 C S) : ∃ fs : List Value, h p = some (.inr (1, fs)) ∧ wq_cw G l d C S mX2_put [.ref p, .int (nI i), .int (nI j), .long x] h F := by
  obtain ⟨k1, f, k2, k3⟩ := k
  refine ⟨_, k2.2.1, wq_cw.use hd (Nat.zero_le _) (Nat.zero_le _) (c_pput k2 (r := i) (c := j) (by omega) x) ?_⟩
  rintro h2 rfl
  refine q _ ⟨k1.t (hx.set (Or.inl (Or.inr (Or.inl rfl)))), _, k2.sc _, fun r c hr hc => ⟨fun z => ?_, fun z => ?_⟩⟩
  · show (if 98 * r + c = 98 * i + j then x else f (98 * r + c)) = _
    by_cases y : r = i ∧ c = j
    · rw [if_pos (by omega), e, y.1, y.2]
    · rw [if_neg (by omega)]
      exact (k3 r c hr hc).1 (z.resolve_left y)
  · show (if 98 * r + c = 98 * i + j then x else f (98 * r + c)) = 0
    by_cases y : r = i ∧ c = j
    · exact absurd (Or.inl y) z
    · rw [if_neg (by omega)]
      exact (k3 r c hr hc).2 (fun w => z (Or.inr w))
theorem cyext_ (k : cyi_ G h0 p ce ba m w0 W low g A X h) (e : ∀ r c, r < 35 → c < 98 → (X r c ↔ X' r c) ∨ A c r = 0) : cyi_ G h0 p ce ba m w0 W low g A X' h := by
  obtain ⟨k1, f, k2, k3⟩ := k
  refine ⟨k1, f, k2, fun r c hr hc => ?_⟩
  rcases e r c hr hc with z | z
  · exact ⟨fun y => (k3 r c hr hc).1 (z.mpr y), fun y => (k3 r c hr hc).2 (fun w => y (z.mp w))⟩
  · have v : f (98 * r + c) = 0 := by
      by_cases y : X r c
      · rw [(k3 r c hr hc).1 y, z]; rfl
      · exact (k3 r c hr hc).2 y
    exact ⟨fun _ => by rw [v, z]; rfl, fun _ => v⟩
theorem cym_ (k : cyi_ G h0 p ce ba m w0 W low g A X h) {F : Int32 → Prop} (q : F m) : wq_gI h p [(1, 2)] F := by
  obtain ⟨k1, f, k2, k3⟩ := k
  exact gI1 k2.2.1 rfl q
theorem cyn_ (k : cyi_ G h0 p ce ba m w0 W low g A X h) {F : Int32 → Prop} (q : F w0) : wq_gI h p [(1, 3)] F := by
  obtain ⟨k1, f, k2, k3⟩ := k
  exact gI1 k2.2.1 rfl q
theorem cyW_ (k : cyi_ G h0 p ce ba m w0 W low g A X h) {F : Int32 → Prop} (q : F W) : wq_gI h p [(1, 4)] F := by
  obtain ⟨k1, f, k2, k3⟩ := k
  exact gI1 k2.2.1 rfl q
theorem cypf_ (k : cyi_ G h0 p ce ba m w0 W low g A X h) (m' w0' W' : Int32) (low' : Int64) : cyi_ G h0 p ce ba m' w0' W' low' g A X (wq_set h p (.inr (1, [.ref ce, .ref ba, .int m', .int w0', .int W', .long low']))) := by
  obtain ⟨k1, f, k2, k3⟩ := k
  exact ⟨k1.t (hx.set (Or.inl (Or.inl rfl))), f, k2.sp _ _ _ _, k3⟩
theorem cyf2_ (k : cyi_ G h0 p ce ba m w0 W low g A X h) {m' : Int32} {F : wq_H → Prop} (q : ∀ h2, cyi_ G h0 p ce ba m' w0 W low g A X h2 → F h2) : wq_pf G h p [(1, 2)] (.int m') F := by
  have k0 := cypf_ k m' w0 W low
  obtain ⟨k1, f, k2, k3⟩ := k
  exact pf1 k2.2.1 k2.1.1 (by simp) (q _ k0)
theorem cyf4_ (k : cyi_ G h0 p ce ba m w0 W low g A X h) {W' : Int32} {F : wq_H → Prop} (q : ∀ h2, cyi_ G h0 p ce ba m w0 W' low g A X h2 → F h2) : wq_pf G h p [(1, 4)] (.int W') F := by
  have k0 := cypf_ k m w0 W' low
  obtain ⟨k1, f, k2, k3⟩ := k
  exact pf1 k2.2.1 k2.1.1 (by simp) (q _ k0)
theorem cyf5_ (k : cyi_ G h0 p ce ba m w0 W low g A X h) {low' : Int64} {F : wq_H → Prop} (q : ∀ h2, cyi_ G h0 p ce ba m w0 W low' g A X h2 → F h2) : wq_pf G h p [(1, 5)] (.long low') F := by
  have k0 := cypf_ k m w0 W low'
  obtain ⟨k1, f, k2, k3⟩ := k
  exact pf1 k2.2.1 k2.1.1 (by simp) (q _ k0)
theorem cyb_ (k : cyi_ G h0 p ce ba m w0 W low g A X h) {i : Nat} (hi : i < 33) {x : Int32} {F : wq_H → Prop} (q : ∀ h2, cyi_ G h0 p ce ba m w0 W low (upd g i x) A X h2 → F h2) : wq_si G h ba (nI i) x F := by
  obtain ⟨k1, f, k2, k3⟩ := k
  exact si_n k2.2.2.2 k2.1.2.2 i rfl hi (by omega) (q _ ⟨k1.t (hx.set (Or.inl (Or.inr (Or.inr rfl)))), f, k2.sb _, k3⟩)
theorem cyba_ (k : cyi_ G h0 p ce ba m w0 W low g A X h) {F : Nat → Prop} (q : F ba) : wq_gR h p [(1, 1)] F := by
  obtain ⟨k1, f, k2, k3⟩ := k
  exact gR1 k2.2.1 rfl q
end CP19
section CP19b
variable {G : wq_G} {l : Launch} {h : wq_H} {p ce ba t li : Nat} {sa ta ca : Nat → Nat} {m0 w00 W0 : Int32} {low0 : Int64} {f0 : Nat → Int64} {g0 : Nat → Int32} {L N : Nat} {T : zs_T}
theorem c_lays (keep : ∀ h', hx (pz p ce ba) h h' → ∃ lb, tb_at G h' t li lb sa ta ca T) (hok : zs_ok L N T) (hL : L ≤ 6) (hN : N ≤ 60) (k : pgs G h p ce ba m0 w00 W0 low0 f0 g0) : wq_C G l 5 0 0 mX2_lays [.ref p, .ref t, .int (nI (2 ^ L)), .int (nI N)] h (wq_qv fun h' => ∃ g t', cu_i G h p ce ba (nI (lp_m T 1)) (nI (2 ^ L)) (nI (2 ^ L + lp_m T 1)) (jJ 1) g t' h' ∧ (∀ r, r < lp_m T 1 → g r = nI (2 ^ L + r)) ∧ (∀ r c, r ≤ lp_m T 1 → c ≤ 2 ^ L + lp_m T 1 → t' r c = jJ (lp_A L N T 1 lp_1 c r)) ∧ ∀ c, c < 98 → t' (lp_m T 1 + 1) c = 0) := by
  have h8 := hok.1
  have hp := pow_64 hL
  have hp0 := Nat.two_pow_pos L
  have hR : lp_m T 1 = 1 + lp_ro T T.length := rfl
  have hR2 := lp_ro_le T T.length
  generalize hK : (fun h' : wq_H => ∃ g t', cu_i G h p ce ba (nI (lp_m T 1)) (nI (2 ^ L)) (nI (2 ^ L + lp_m T 1)) (jJ 1) g t' h' ∧ (∀ r, r < lp_m T 1 → g r = nI (2 ^ L + r)) ∧ (∀ r c, r ≤ lp_m T 1 → c ≤ 2 ^ L + lp_m T 1 → t' r c = jJ (lp_A L N T 1 lp_1 c r)) ∧ ∀ c, c < 98 → t' (lp_m T 1 + 1) c = 0) = K
  generalize hW : 2 ^ L + lp_m T 1 = W at *
  generalize hA : lp_A L N T 1 lp_1 = A at *
  generalize hm : lp_m T 1 = m at *
  -- the aim
  have aim : ∀ n x h' g, x + n = 2 ^ L → (∀ r, r < m → g r = nI (2 ^ L + r)) → cyi_ G h p ce ba (nI m) (nI (2 ^ L)) (nI W) low0 g A (fun r c => (r < m ∧ c ≤ W) ∨ (r = m ∧ c < x)) h' → wq_T G l 5 mX2_lays (wq_qv K) 287 [some (.ref p), none, none, none, none, some (.int (nI x)), none, none] [] h' 0 0 := by
    intro n
    induction n with
    | zero =>
      intro x h' g hx1 hg hs
      obtain rfl : x = 2 ^ L := by omega
      refine vX2_lays_287 (cyn_ hs ⟨fun _ => cyf5_ hs fun h2 hs2 => ?_, fun c => absurd (Int32.le_refl _) c⟩)
      have hs3 := cyext_ (X' := fun r c => r ≤ m ∧ c ≤ W) hs2 fun r c hr hc => by
        by_cases z : r = m ∧ 2 ^ L ≤ c ∧ c ≤ W
        · refine Or.inr ?_
          obtain ⟨rfl, z2, z3⟩ := z
          by_cases z4 : c = W
          · rw [z4, ← hA, ← hW, ← hm]; exact lp_rhs0
          · have := lp_slack (L := L) (N := N) (T := T) (u := 1) (aim := lp_1) (r := c - 2 ^ L) (i := r) (by omega)
            rw [show 2 ^ L + (c - 2 ^ L) = c by omega, if_neg (by omega), hA] at this
            exact this
        · refine Or.inl ?_
          try dsimp only
          omega
      obtain ⟨k1, f, k2, k3⟩ := hs3
      subst hK
      exact ⟨g, fun r c => f (98 * r + c), ⟨k1, f, k2, fun _ _ _ => rfl⟩, hg, fun r c hr hc => (k3 r c (by omega) (by omega)).1 ⟨hr, hc⟩, fun c hc => (k3 (m + 1) c (by omega) hc).2 (by omega)⟩
    | succ n ih =>
      intro x h' g hx1 hg hs
      refine vX2_lays_287 (cyn_ hs ⟨fun z => ?_, fun _ => cym_ hs (cyput_ hs (by decide) (i := m) (j := x) (by omega) (by omega) ?_ fun h2 hs2 => ?_)⟩)
      · rw [nI_leI (by omega) (by omega)] at z
        omega
      · have := lp_aim (L := L) (N := N) (T := T) (u := 1) (aim := lp_1) (h := x) (by omega)
        rw [hA, hm] at this
        rw [this]; rfl
      · rw [nI_1]
        refine ih (x + 1) h2 g (by omega) hg (cyext_ hs2 fun r c hr hc => Or.inl ?_)
        try dsimp only
        omega
  -- the slacks
  have slack : ∀ n r0 h' g, r0 + n = m → (∀ r, r < r0 → g r = nI (2 ^ L + r)) → cyi_ G h p ce ba (nI m) (nI (2 ^ L)) (nI W) low0 g A (fun r c => (r < m ∧ (c < 2 ^ L ∨ c = W)) ∨ (r < r0 ∧ c = 2 ^ L + r)) h' → wq_T G l 5 mX2_lays (wq_qv K) 241 [some (.ref p), none, none, none, none, some (.int (nI r0)), none, none] [] h' 0 0 := by
    intro n
    induction n with
    | zero =>
      intro r0 h' g hr0 hg hs
      obtain rfl : r0 = m := by omega
      refine vX2_lays_241 (cym_ hs ⟨fun _ => ?_, fun c => absurd (Int32.le_refl _) c⟩)
      refine aim (2 ^ L) 0 h' g (by omega) hg (cyext_ hs fun r c hr hc => ?_)
      by_cases z : r < r0 ∧ 2 ^ L ≤ c ∧ c < W ∧ c ≠ 2 ^ L + r
      · refine Or.inr ?_
        have := lp_slack (L := L) (N := N) (T := T) (u := 1) (aim := lp_1) (r := c - 2 ^ L) (i := r) (by omega)
        rw [show 2 ^ L + (c - 2 ^ L) = c by omega, if_neg (by omega), hA] at this
        exact this
      · refine Or.inl ?_
        try dsimp only
        omega
    | succ n ih =>
      intro r0 h' g hr0 hg hs
      refine vX2_lays_241 (cym_ hs ⟨fun z => ?_, fun _ => cyn_ hs ?_⟩)
      · rw [nI_leI (by omega) (by omega)] at z
        omega
      · rw [nI_add]
        refine cyput_ hs (by decide) (i := r0) (j := 2 ^ L + r0) (by omega) (by omega) ?_ fun h2 hs2 => cyba_ hs2 (cyn_ hs2 ?_)
        · have := lp_slack (L := L) (N := N) (T := T) (u := 1) (aim := lp_1) (r := r0) (i := r0) (by omega)
          rw [if_pos rfl, hA] at this
          rw [this]; rfl
        · refine cyb_ hs2 (by omega) fun h3 hs3 => ?_
          rw [nI_1]
          rw [nI_add] at hs3
          refine ih (r0 + 1) h3 _ (by omega) (fun r hr => ?_) (cyext_ hs3 fun r c hr hc => Or.inl ?_)
          · unfold upd
            by_cases e : r = r0
            · rw [if_pos e, e]
            · rw [if_neg e]; exact hg r (by omega)
          · try dsimp only
            omega
  -- the sets
  have sets : ∀ n k h', k + n = T.length → cyi_ G h p ce ba (nI m) (nI (2 ^ L)) (nI W) low0 g0 A (fun r c => r < 1 + lp_ro T k ∧ (c < 2 ^ L ∨ c = W)) h' → wq_T G l 5 mX2_lays (wq_qv K) 129 [some (.ref p), some (.ref t), none, none, some (.int (nI (1 + lp_ro T k))), some (.int (nI k)), none, none] [] h' 0 0 := by
    intro n
    induction n with
    | zero =>
      intro k h' hk hs
      obtain rfl : k = T.length := by omega
      obtain ⟨lb, ht⟩ := keep h' hs.1
      refine vX2_lays_129 (u_size ht (by decide) ⟨fun _ => ?_, fun c => absurd (Int32.le_refl _) c⟩)
      refine slack m 0 h' g0 (by omega) (fun r hr => absurd hr (Nat.not_lt_zero r)) (cyext_ hs fun r c hr hc => Or.inl ?_)
      try dsimp only
      omega
    | succ n ih =>
      intro k h' hk hs
      obtain ⟨lb, ht⟩ := keep h' hs.1
      have hkl : k < T.length := by omega
      have hro := lp_ro_mono T (show k + 1 ≤ T.length by omega)
      have hro2 : lp_ro T (k + 1) = lp_ro T k + zs_out (zs_at T k) := rfl
      have ho4 := zs_out_le (zs_at T k)
      have o6 := ok6 hok hL hkl
      refine vX2_lays_129 (u_size ht (by decide) ⟨fun z => ?_, fun _ => u_set ht hkl (by decide) ?_⟩)
      · rw [nI_leI (by omega) (by omega)] at z
        omega
      -- its outcomes
      have outs : ∀ n o h', o + n = zs_out (zs_at T k) → cyi_ G h p ce ba (nI m) (nI (2 ^ L)) (nI W) low0 g0 A (fun r c => (r < 1 + lp_ro T k ∧ (c < 2 ^ L ∨ c = W)) ∨ (r < 1 + lp_ro T (k + 1) ∧ c < 2 ^ L) ∨ (r < 1 + lp_ro T k + o ∧ c = W)) h' → wq_T G l 5 mX2_lays (wq_qv K) 184 [some (.ref p), some (.ref t), none, none, some (.int (nI (1 + lp_ro T k))), some (.int (nI k)), some (va_rf (some (sa k))), some (.int (nI o))] [] h' 0 0 := by
        intro n
        induction n with
        | zero =>
          intro o h' ho hs
          obtain rfl : o = zs_out (zs_at T k) := by omega
          obtain ⟨lb, ht⟩ := keep h' hs.1
          have hat := ht.2.2 k hkl
          refine vX2_lays_184 ⟨_, rfl, v_outcomes hat (by decide) ⟨fun _ => v_outcomes hat (by decide) ?_, fun c => absurd (Int32.le_refl _) c⟩⟩
          rw [nI_add, nI_1, Nat.add_assoc, ← hro2]
          refine ih (k + 1) h' (by omega) (cyext_ hs fun r c hr hc => Or.inl ?_)
          try dsimp only
          omega
        | succ n ih3 =>
          intro o h' ho hs
          obtain ⟨lb, ht⟩ := keep h' hs.1
          have hat := ht.2.2 k hkl
          obtain ⟨-, ⟨f, w1, w2⟩, -⟩ := id hat
          have htm := ok_tm hok hkl (o := o) (by omega)
          refine vX2_lays_184 ⟨_, rfl, v_outcomes hat (by decide) ⟨fun z => ?_, fun _ => cyW_ hs (as_R0 hat (ai_n w1 o rfl (by omega) (by omega) ?_))⟩⟩
          · rw [nI_leI (by omega) (by omega)] at z
            omega
          · rw [w2 o (by omega), nI_add, jJ_n (by omega)]
            refine cyput_ hs (by decide) (i := 1 + lp_ro T k + o) (j := W) (by omega) (by omega) ?_ fun h2 hs2 => ?_
            · have := lp_rhs (L := L) (N := N) (T := T) (u := 1) (aim := lp_1) (k := k) (o := o) hkl (by omega)
              rw [hA, hm, hW, ← Nat.add_assoc] at this
              rw [this]
            · rw [nI_1]
              refine ih3 (o + 1) h2 (by omega) (cyext_ hs2 fun r c hr hc => Or.inl ?_)
              try dsimp only
              omega
      -- its hidden answers
      have hid : ∀ n x h', x + n = 2 ^ L → cyi_ G h p ce ba (nI m) (nI (2 ^ L)) (nI W) low0 g0 A (fun r c => (r < 1 + lp_ro T k ∧ (c < 2 ^ L ∨ c = W)) ∨ (r < 1 + lp_ro T (k + 1) ∧ c < x)) h' → wq_T G l 5 mX2_lays (wq_qv K) 149 [some (.ref p), some (.ref t), none, none, some (.int (nI (1 + lp_ro T k))), some (.int (nI k)), some (va_rf (some (sa k))), some (.int (nI x))] [] h' 0 0 := by
        intro n
        induction n with
        | zero =>
          intro x h' hx1 hs
          obtain rfl : x = 2 ^ L := by omega
          refine vX2_lays_149 (cyn_ hs ⟨fun _ => ?_, fun c => absurd (Int32.le_refl _) c⟩)
          refine outs (zs_out (zs_at T k)) 0 h' (by omega) (cyext_ hs fun r c hr hc => Or.inl ?_)
          try dsimp only
          omega
        | succ n ih3 =>
          intro x h' hx1 hs
          obtain ⟨lb, ht⟩ := keep h' hs.1
          have hat := ht.2.2 k hkl
          have hf := zs_fit_lt (zs_at T k) x
          refine vX2_lays_149 (cyn_ hs ⟨fun z => ?_, fun _ => ⟨_, rfl, v_outcome hat o6.1 o6.2 (by omega) (by decide) ?_⟩⟩)
          · rw [nI_leI (by omega) (by omega)] at z
            omega
          · have hA1 : ∀ o, o < zs_out (zs_at T k) → A x (1 + lp_ro T k + o) = if zs_fit (zs_at T k) x = o then 1 else 0 := by
              intro o ho
              have := lp_out (L := L) (N := N) (T := T) (u := 1) (aim := lp_1) (h := x) (k := k) (o := o) (by omega) hkl ho
              rw [hA, ← Nat.add_assoc] at this
              exact this
            rw [nI_add]
            refine cyput_ hs (by decide) (i := 1 + lp_ro T k + zs_fit (zs_at T k) x) (j := x) (by omega) (by omega) ?_ fun h2 hs2 => ?_
            · rw [hA1 _ hf, if_pos rfl]; rfl
            · rw [nI_1]
              refine ih3 (x + 1) h2 (by omega) (cyext_ hs2 fun r c hr hc => ?_)
              by_cases z : 1 + lp_ro T k ≤ r ∧ r < 1 + lp_ro T (k + 1) ∧ c = x ∧ r ≠ 1 + lp_ro T k + zs_fit (zs_at T k) x
              · refine Or.inr ?_
                have := hA1 (r - (1 + lp_ro T k)) (by omega)
                rw [show 1 + lp_ro T k + (r - (1 + lp_ro T k)) = r by omega, if_neg (by omega)] at this
                rw [z.2.2.1]; exact this
              · refine Or.inl ?_
                try dsimp only
                omega
      refine hid (2 ^ L) 0 h' (by omega) (cyext_ hs fun r c hr hc => Or.inl ?_)
      try dsimp only
      omega
  -- all together
  have all : ∀ n x h', x + n = 2 ^ L → cyi_ G h p ce ba (nI m) (nI (2 ^ L)) (nI W) low0 g0 A (fun r c => r = 0 ∧ c < x) h' → wq_T G l 5 mX2_lays (wq_qv K) 89 [some (.ref p), some (.ref t), none, some (.int (nI N)), some (.int (nI x)), none, none, none] [] h' 0 0 := by
    intro n
    induction n with
    | zero =>
      intro x h' hx1 hs
      obtain rfl : x = 2 ^ L := by omega
      refine vX2_lays_89 (cyn_ hs ⟨fun _ => cyW_ hs ?_, fun c => absurd (Int32.le_refl _) c⟩)
      rw [jJ_n (by omega)]
      refine cyput_ hs (by decide) (i := 0) (j := W) (by omega) (by omega) ?_ fun h2 hs2 => ?_
      · have := lp_rhsA (L := L) (N := N) (T := T) (u := 1) (aim := lp_1) (i := 0) (by omega)
        rw [hA, hm, hW] at this
        rw [this]
      · refine sets T.length 0 h2 (by omega) (cyext_ hs2 fun r c hr hc => Or.inl ?_)
        show (r = 0 ∧ c = W ∨ r = 0 ∧ c < 2 ^ L) ↔ r < 1 + 0 ∧ (c < 2 ^ L ∨ c = W)
        omega
    | succ n ih =>
      intro x h' hx1 hs
      refine vX2_lays_89 (cyn_ hs ⟨fun z => ?_, fun _ => cyput_ hs (by decide) (i := 0) (j := x) (by omega) (by omega) ?_ fun h2 hs2 => ?_⟩)
      · rw [nI_leI (by omega) (by omega)] at z
        omega
      · have := lp_all (L := L) (N := N) (T := T) (u := 1) (aim := lp_1) (h := x) (i := 0) (by omega) (by omega)
        rw [hA] at this
        rw [this]; rfl
      · rw [nI_1]
        refine ih (x + 1) h2 (by omega) (cyext_ hs2 fun r c hr hc => Or.inl ?_)
        try dsimp only
        omega
  -- how many rows
  have rows : ∀ n k h', k + n = T.length → cyi_ G h p ce ba (nI (1 + lp_ro T k)) (nI (2 ^ L)) W0 low0 g0 A (fun _ _ => False) h' → wq_T G l 5 mX2_lays (wq_qv K) 40 [some (.ref p), some (.ref t), none, some (.int (nI N)), some (.int (nI k)), none, none, none] [] h' 0 0 := by
    intro n
    induction n with
    | zero =>
      intro k h' hk hs
      obtain rfl : k = T.length := by omega
      obtain ⟨lb, ht⟩ := keep h' hs.1
      refine vX2_lays_40 (u_size ht (by decide) ⟨fun _ => cyn_ hs (cym_ hs ?_), fun c => absurd (Int32.le_refl _) c⟩)
      rw [nI_add, ← hR, hW]
      refine cyf4_ hs fun h2 hs2 => ?_
      rw [← hR] at hs2
      refine all (2 ^ L) 0 h2 (by omega) (cyext_ hs2 fun r c hr hc => Or.inl ?_)
      exact ⟨fun z => z.elim, fun z => absurd z.2 (Nat.not_lt_zero _)⟩
    | succ n ih =>
      intro k h' hk hs
      obtain ⟨lb, ht⟩ := keep h' hs.1
      have hkl : k < T.length := by omega
      refine vX2_lays_40 (u_size ht (by decide) ⟨fun z => ?_, fun _ => cym_ hs (u_set ht hkl (by decide) ⟨_, rfl, v_outcomes (ht.2.2 k hkl) (by decide) ?_⟩)⟩)
      · rw [nI_leI (by omega) (by omega)] at z
        omega
      · rw [nI_add, nI_1]
        exact cyf2_ hs fun h2 hs2 => ih (k + 1) h2 (by omega) (by rw [Nat.add_assoc] at hs2; exact hs2)
  -- nothing
  refine wq_C.of pn_X2 (Nat.le_of_ble_eq_true rfl) rfl (vX2_lays_0 ?_)
  have zero : ∀ n x h' f, x + n = 3430 → hx (pz p ce ba) h h' → pgs G h' p ce ba m0 w00 W0 low0 f g0 → (∀ j, j < x → f j = 0) → wq_T G l 5 mX2_lays (wq_qv K) 3 [some (.ref p), some (.ref t), some (.int (nI (2 ^ L))), some (.int (nI N)), some (.int (nI x)), none, none, none] [] h' 0 0 := by
    intro n
    induction n with
    | zero =>
      intro x h' f hx1 q1 q2 q3
      obtain rfl : x = 3430 := by omega
      refine vX2_lays_3 (gR1 q2.2.1 rfl ⟨G.2.2.1 1, .long, (3430, .inr (.inl f)), by simp, q2.2.2.1, ⟨fun _ => ?_, fun c => absurd (Int32.le_refl (nI 3430)) c⟩⟩)
      have k0 : cyi_ G h p ce ba m0 w00 W0 low0 g0 A (fun _ _ => False) h' := ⟨q1, f, q2, fun r c hr hc => ⟨fun z => z.elim, fun _ => q3 _ (by omega)⟩⟩
      refine pf1 q2.2.1 q2.1.1 (by simp) (pf1 wq_set_eq q2.1.1 (by simp) ?_)
      rw [wq_set_set]
      exact rows T.length 0 _ (by omega) (cypf_ k0 (nI (1 + 0)) (nI (2 ^ L)) W0 low0)
    | succ n ih =>
      intro x h' f hx1 q1 q2 q3
      refine vX2_lays_3 (gR1 q2.2.1 rfl ⟨G.2.2.1 1, .long, (3430, .inr (.inl f)), by simp, q2.2.2.1, ⟨fun c => ?_, fun _ => gR1 q2.2.1 rfl (sj_n q2.2.2.1 q2.1.2.1 x rfl (by omega) (by omega) ?_)⟩⟩)
      · have c : nI 3430 ≤ nI x := c
        rw [nI_leI (by omega) (by omega)] at c
        omega
      · rw [nI_1]
        refine ih (x + 1) _ _ (by omega) (q1.t (hx.set (Or.inl (Or.inr (Or.inl rfl))))) (q2.sc _) fun j hj => ?_
        show (if j = x then (0 : Int64) else f j) = 0
        by_cases e : j = x
        · rw [if_pos e]
        · rw [if_neg e]; exact q3 j (by omega)
  exact zero 3430 0 h f0 (by omega) hx.refl k (fun j hj => absurd hj (Nat.not_lt_zero j))
end CP19b
