/-! CONTRACTS of the reference: together -/
set_option maxRecDepth 100000
def tg_s (most : Bool) : Int := if most then -1 else 1
theorem tg_s_sq (most : Bool) : tg_s most * tg_s most = 1 := by cases most <;> decide
section TW19
variable {G : wq_G} {l : Launch} {o : Nat} {ad : Nat → Nat} {h : wq_H} {s : tw_S} {L N : Nat} {T : zs_T}
theorem t_isBit (ok : tw_ok G o ad) (x : Int32) : wq_C G l 0 0 0 mX3_isBit [.int x] (tw_h G o ad s h) (tw_qi G o ad h fun r s' => r = b2i (inB x 2) ∧ s' = s) := by
  have h0 : ∀ k, k < 2 → inB (nI k) 2 = true := by decide
  refine wq_C.of pn_X3 (Nat.le_of_ble_eq_true rfl) rfl (vX3_isBit_0 ok ⟨fun c => ?_, fun c => ⟨fun c2 => ⟨?_, rfl⟩, fun c2 => ?_⟩⟩)
  · subst c; exact ⟨by decide, rfl⟩
  · have : inB x 2 = false := by
      cases e : inB x 2 with
      | false => rfl
      | true =>
        obtain ⟨k, hk, rfl⟩ := inB_of e
        obtain rfl | rfl : k = 0 ∨ k = 1 := by omega
        · exact absurd rfl c
        · exact absurd rfl c2
    rw [this]; rfl
  · subst c2; exact ⟨by decide, rfl⟩
abbrev tg_aim (i u j v : Nat) (most : Bool) : Nat → Int := fun h => tg_s most * zs_w i u j v h
theorem tg_aim_sq {i u j v : Nat} {most : Bool} (h : Nat) : tg_aim i u j v most h * tg_aim i u j v most h ≤ 1 := by
  have h1 := zs_w_le (i := i) (u := u) (j := j) (v := v) (h := h)
  have e : zs_w i u j v h = 0 ∨ zs_w i u j v h = 1 := by omega
  show tg_s most * zs_w i u j v h * (tg_s most * zs_w i u j v h) ≤ 1
  rcases e with e | e <;> rw [e] <;> cases most <;> decide
/-- the second part: from the most of the first aim on -/
theorem t_tog2 (ok : tw_ok G o ad) (hq : tr_q s L N T) (hT : 0 < T.length) {s1 : tw_S} {b : Nat → Nat} (tm : tm_i L N T s b s1) (mx : zs_mix L N T) {i u j v : Nat} (hi : i < L) (hj : j < L) (hu : u ≤ 1) (hv : v ≤ 1) (most : Bool) (x6 : Int32) {K : Int32 → tw_S → Prop} (hK : ∀ r s', tw_f1 s s' → zs_frac N (zs_tg L N T i u j v most) x6 r → K r s') : tw_T G l o ad h 5 mX3_together (tw_qi G o ad h K) 102 [some (.ref o), some (.int (nI i)), some (.int (nI u)), some (.int (nI j)), some (.int (nI v)), none, some (.int x6), some (.long (jJ (tg_s most))), none, some (.int 0), none, none, none] [] s1 := by
  have h8 := tr_8 hq
  have hL := hq.2.2.2.2.2.1
  have hN := hq.2.2.2.2.2.2
  have hp := pow_64 hL.2
  have hp0 := Nat.two_pow_pos L
  obtain ⟨m1, m2⟩ := tm_m h8 hT
  obtain ⟨hf, h30, h31, h28, hup⟩ := tm.1
  obtain ⟨iv, -, sok, -⟩ := id hup
  have bs1 := tm_bs hq hT (aim := lp_1) (fun _ _ => (by decide : (-1 : Int) * -1 ≤ 1))
  have bs2 := tm_bs hq hT (aim := tg_aim i u j v most) (fun h _ => tg_aim_sq h)
  have sm := sx_same (b := b) (A := lp_A L N T 0 lp_1) (A' := lp_A L N T 0 (tg_aim i u j v most)) (m := lp_m T 0) (fun c i hi => lp_A_aim hi)
  generalize hW : 2 ^ L + lp_m T 0 = W at *
  generalize hmm : lp_m T 0 = m at *
  have hW96 : W ≤ 96 := by omega
  -- the cost of a column
  have ch : ∀ c, c < 2 ^ L → lp_A L N T 0 (tg_aim i u j v most) c m = tg_s most * zs_w i u j v c := fun c hc => by rw [← hmm, lp_aim hc]
  have cs : ∀ c, c ≤ W → ¬ c < 2 ^ L → lp_A L N T 0 (tg_aim i u j v most) c m = 0 := fun c hc hn => by
    by_cases e : c = W
    · rw [e, ← hW, ← hmm, lp_rhs0]
    · have := lp_slack (L := L) (N := N) (T := T) (u := 0) (aim := tg_aim i u j v most) (r := c - 2 ^ L) (i := m) (by omega)
      rw [show 2 ^ L + (c - 2 ^ L) = c by omega, if_neg (by omega)] at this
      exact this
  have lowD : s1.2.2.2 = jJ (sx_D (lp_A L N T 0 lp_1) m b) := iv.1
  have bit : ∀ c x y, c < 2 ^ 31 → x < L → y ≤ 1 → (((nI c >>> (nI x &&& 31)) &&& 1) = nI y ↔ c / 2 ^ x % 2 = y) := fun c x y hc hx hy => by
    have : c / 2 ^ x % 2 < 2 := Nat.mod_lt _ (by omega)
    rw [nI_bit hc (by omega), nI_eq (by omega) (by omega)]
  -- going up by the second aim, and the answer
  have up : ∀ s', tu_i s1 (fun r c => if r = m + 1 ∧ c ≤ W then jJ (sx_t (lp_A L N T 0 (tg_aim i u j v most)) m b m c) else tu_f s1 r c) s' → tw_T G l o ad h 5 mX3_together (tw_qi G o ad h K) 189 [some (.ref o), some (.int (nI i)), some (.int (nI u)), some (.int (nI j)), some (.int (nI v)), none, some (.int x6), some (.long (jJ (tg_s most))), none, some (.int (nI m)), none, none, none] [] s' := by
    intro s' hs
    have g30 : s'.1 30 = nI m := hs.2.1.trans h30
    have g31 : s'.1 31 = nI (W + 1) := hs.2.2.1.trans h31
    have iv1' : lp_iv (lp_A L N T 0 lp_1) m W b m (tu_f s') s'.2.2.2 := iv.congr hs.2.2.2.1 (fun r c hr hc => tu_at hs (by omega) (if_neg (by omega))) (fun c hc => tu_at hs (by omega) (if_neg (by omega)))
    have iv2' : lp_iv (lp_A L N T 0 (tg_aim i u j v most)) m W b (m + 1) (tu_f s') s'.2.2.2 := by
      refine ⟨by rw [hs.2.2.2.1, lowD, sm.1], fun r c hr hc => ?_, fun c hc => tu_at hs (by omega) (if_pos ⟨rfl, hc⟩)⟩
      rw [← sm.2 r c hr]
      exact iv1'.2.1 r c hr hc
    have ok2 : sx_ok (lp_A L N T 0 (tg_aim i u j v most)) m W b := iv1'.ok iv2' bs1 bs2 sok
    have tg : tg_i (lp_A L N T 0 (tg_aim i u j v most)) (lp_A L N T 0 lp_1) m W (m + 1) (fun c => decide (sx_t (lp_A L N T 0 lp_1) m b m c = 0)) s' b s' := ⟨tw_f1.refl s', g30, g31, fun r hr => by rw [hs.2.2.2.2.1]; exact h28 r hr, iv2', iv1', ok2, fun _ c hc => ⟨by have := tm.2 c (by rw [hmm, hW]; exact hc); rw [hmm] at this; exact this, by simp⟩⟩
    have A0 := lp_A0 (L := L) (N := N) (T := T) (u := 0) (aim := tg_aim i u j v most)
    have A2 : ∀ c, c < 2 ^ L + lp_m T 0 → _ := fun c hc => lp_A2 (L := L) (N := N) (T := T) (u := 0) (aim := tg_aim i u j v most) (Or.inr ⟨rfl, hT⟩) hc
    rw [hmm, hW] at A0 A2
    refine vX3_together_189 ok ⟨fun _ => ?_, fun c => ?_⟩
    · rw [g30, nI_1]
      refine tw_cv.use (by decide) (t_goesUp ok m2 hW96 (Or.inr rfl) bs2 bs1 A0 A2 tg) ?_
      rintro s2 ⟨b', g1, g2⟩
      obtain ⟨k1, k2, k3, k4, k5, k6, k7, k8⟩ := g1
      rw [k2, k3, nI_sub1 (by omega), Nat.add_sub_cancel, nI_1]
      refine tw_ci.eq (by decide) (t_cell ok (m + 1) W) (tw_ldl_n (97 * (m + 1) + W) rfl (by omega) (tw_ld_n 49 rfl (by decide) ?_))
      have hf2 : tw_f1 s s2 := (hf.trans hs.1).trans k1
      have hq2 := hq.f1 hf2
      have e1 : s2.2.2.1 (97 * (m + 1) + W) = jJ (sx_t (lp_A L N T 0 (tg_aim i u j v most)) m b' m W) := k5.2.2 W (Nat.le_refl W)
      rw [e1, k5.1, hq2.2.2.2.2.1, jJ_n (by omega), jJ_neg, jJ_mul, jJ_mul, Int.mul_comm (sx_D _ _ _)]
      -- the answer
      have o1 := lp_opt1 (b := b') hq.2.2.1 (Or.inr ⟨rfl, hT⟩)
      have o2 := fun f => lp_opt2 (L := L) (N := N) (T := T) (u := 0) (aim := tg_aim i u j v most) (b := b') hq.2.2.1 (Or.inr ⟨rfl, hT⟩) (wt := fun h => (if most then 1 else -1) * zs_w i u j v h) f
      rw [hmm, hW] at o1
      rw [hmm, hW] at o2
      have ok1' := k5.ok k6 bs2 bs1 k7
      have op1 := o1 ok1' (fun c hc => (k8 rfl c hc).1)
      have op2 := o2 (fun h => by cases most <;> simp [tg_aim, tg_s] ) k7 (fr := fun c => decide (sx_t (lp_A L N T 0 lp_1) m b m c = 0)) (k8 rfl) g2 ((zs_mix_iff op1).mp mx)
      have hD := k7.1
      have b1 := (bs2.2 b' k7.2.1 m (Nat.le_refl m)).2
      have b2 := bs2.D k7.2.1
      have b3 := nab_mul (a := (N : Int)) (P := 60) (by omega) b2
      generalize sx_t (lp_A L N T 0 (tg_aim i u j v most)) m b' m W = z at *
      generalize sx_D (lp_A L N T 0 (tg_aim i u j v most)) m b' = D at *
      have P : zs_tg L N T i u j v most (- tg_s most * z) D := by
        unfold zs_tg
        have e : (if most = true then 1 else -1) * (- tg_s most * z) = z := by cases most <;> simp [tg_s]
        rw [e]
        exact op2
      have nn := zs_tg_nn P
      have hND : 0 < (N : Int) * D := Int.mul_pos (by omega) hD
      have b4 : (- tg_s most * z).natAbs ≤ 18000000000 := by cases most <;> simp [tg_s] <;> omega
      have e3 : - tg_s most * z = ((- tg_s most * z).toNat : Int) := by omega
      have e4 : (N : Int) * D = (((N : Int) * D).toNat : Int) := by omega
      rw [e3, e4]
      refine tw_ci.is (by decide) (t_lowest ok (by omega) (by omega) (by omega) x6) ?_
      exact hK _ s2 hf2 ⟨_, _, P, hD, nn, rfl⟩
    · rw [g30] at c
      exact absurd (Int32.le_refl _) c
  -- the rows
  have rows : ∀ n r s', r + n = m → tu_i s1 (fun a c => if a = m + 1 ∧ c ≤ W then jJ (sx_D (lp_A L N T 0 lp_1) m b * lp_A L N T 0 (tg_aim i u j v most) c m - sx_s (fun a => sx_t (lp_A L N T 0 lp_1) m b a c * lp_A L N T 0 (tg_aim i u j v most) (b a) m) r) else tu_f s1 a c) s' → tw_T G l o ad h 5 mX3_together (tw_qi G o ad h K) 189 [some (.ref o), some (.int (nI i)), some (.int (nI u)), some (.int (nI j)), some (.int (nI v)), none, some (.int x6), some (.long (jJ (tg_s most))), none, some (.int (nI r)), none, none, none] [] s' := by
    intro n
    induction n with
    | zero =>
      intro r s' hr hs
      obtain rfl : r = m := by omega
      refine up s' (tu_ext hs fun a c hc => ?_)
      by_cases q : a = r + 1 ∧ c ≤ W
      · rw [if_pos q, if_pos q]
        congr 1
        have e := sx_col (A := lp_A L N T 0 (tg_aim i u j v most)) (m := r) (b := b) (s := c) (i := r) (Nat.le_refl r)
        unfold sx_e at e
        rw [if_pos rfl, ← sm.1] at e
        rw [e]
        have e2 : sx_s (fun a => sx_t (lp_A L N T 0 (tg_aim i u j v most)) r b a c * lp_A L N T 0 (tg_aim i u j v most) (b a) r) r = sx_s (fun a => sx_t (lp_A L N T 0 lp_1) r b a c * lp_A L N T 0 (tg_aim i u j v most) (b a) r) r := sx_s_congr fun a ha => by rw [sm.2 a c ha]
        rw [e2]
        omega
      · rw [if_neg q, if_neg q]
    | succ n ih =>
      intro r s' hr hs
      have g30 : s'.1 30 = nI m := hs.2.1.trans h30
      have g31 : s'.1 31 = nI (W + 1) := hs.2.2.1.trans h31
      have hq' := hq.f1 (hf.trans hs.1)
      have rb := sok.2.1 r (by omega)
      have g28 : s'.2.1 28 r = nI (b r) := by rw [hs.2.2.2.2.1]; exact h28 r (by omega)
      -- a row that isn't asked for
      have skip : ∀ s', tu_i s1 (fun a c => if a = m + 1 ∧ c ≤ W then jJ (sx_D (lp_A L N T 0 lp_1) m b * lp_A L N T 0 (tg_aim i u j v most) c m - sx_s (fun a => sx_t (lp_A L N T 0 lp_1) m b a c * lp_A L N T 0 (tg_aim i u j v most) (b a) m) r) else tu_f s1 a c) s' → lp_A L N T 0 (tg_aim i u j v most) (b r) m = 0 → tw_T G l o ad h 5 mX3_together (tw_qi G o ad h K) 247 [some (.ref o), some (.int (nI i)), some (.int (nI u)), some (.int (nI j)), some (.int (nI v)), none, some (.int x6), some (.long (jJ (tg_s most))), none, some (.int (nI r)), none, some (.int 0), some (.int 0)] [] s' := by
        intro s' hs hz
        have nx : tw_T G l o ad h 5 mX3_together (tw_qi G o ad h K) 189 [some (.ref o), some (.int (nI i)), some (.int (nI u)), some (.int (nI j)), some (.int (nI v)), none, some (.int x6), some (.long (jJ (tg_s most))), none, some (.int (nI r + 1)), none, none, none] [] s' := by
          rw [nI_1]
          refine ih (r + 1) s' (by omega) (tu_ext hs fun a c hc => ?_)
          simp only [sx_s]
          rw [hz, Int.mul_zero, Int.add_zero]
        exact vX3_together_247 ok ⟨fun _ => nx, fun _ => ⟨fun _ => nx, fun c => absurd rfl c⟩⟩
      have take : ∀ n x s', x + n = W + 1 → lp_A L N T 0 (tg_aim i u j v most) (b r) m = tg_s most → tu_i s1 (fun a c => if a = m + 1 ∧ c ≤ W then jJ (sx_D (lp_A L N T 0 lp_1) m b * lp_A L N T 0 (tg_aim i u j v most) c m - sx_s (fun a => sx_t (lp_A L N T 0 lp_1) m b a c * lp_A L N T 0 (tg_aim i u j v most) (b a) m) (if c < x then r + 1 else r)) else tu_f s1 a c) s' → tw_T G l o ad h 5 mX3_together (tw_qi G o ad h K) 247 [some (.ref o), some (.int (nI i)), some (.int (nI u)), some (.int (nI j)), some (.int (nI v)), none, some (.int x6), some (.long (jJ (tg_s most))), none, some (.int (nI r)), none, some (.int 1), some (.int (nI x))] [] s' := by
        intro n
        induction n with
        | zero =>
          intro x s' hx hz hs
          obtain rfl : x = W + 1 := by omega
          have g31 : s'.1 31 = nI (W + 1) := hs.2.2.1.trans h31
          refine vX3_together_247 ok ⟨fun _ => ?_, fun c => ?_⟩
          · rw [nI_1]
            refine ih (r + 1) s' (by omega) (tu_ext hs fun a c hc => ?_)
            by_cases q : a = m + 1 ∧ c ≤ W
            · rw [if_pos q, if_pos q, if_pos (by omega)]
            · rw [if_neg q, if_neg q]
          · rw [g31] at c
            exact absurd (Int32.le_refl _) c
        | succ n ih2 =>
          intro x s' hx hz hs
          have g30 : s'.1 30 = nI m := hs.2.1.trans h30
          have g31 : s'.1 31 = nI (W + 1) := hs.2.2.1.trans h31
          refine vX3_together_247 ok ⟨fun c => ?_, fun _ => ⟨fun c => absurd c (by decide), fun _ => ?_⟩⟩
          · rw [g31, nI_leI (by omega) (by omega)] at c
            omega
          · rw [g30, nI_1]
            refine tw_ci.eq (by decide) (t_cell ok (m + 1) x) (tw_ldl_n (97 * (m + 1) + x) rfl (by omega) (tw_ci.eq (by decide) (t_cell ok r x) (tw_ldl_n (97 * r + x) rfl (by omega) (tw_stl_n (97 * (m + 1) + x) rfl (by omega) ?_))))
            have e1 := tu_at hs (r := m + 1) (c := x) (by omega) (if_pos ⟨rfl, by omega⟩)
            have e2 : s'.2.2.1 (97 * r + x) = jJ (sx_t (lp_A L N T 0 lp_1) m b r x) := (tu_at hs (r := r) (c := x) (by omega) (if_neg (by omega))).trans (iv.2.1 r x (by omega) (by omega))
            rw [if_neg (by omega)] at e1
            rw [e1, e2, jJ_mul, jJ_sub, nI_1]
            refine ih2 (x + 1) _ (by omega) hz (tu_ext (tu_pl hs (i := m + 1) (j := x) (by omega) _) fun a c hc => ?_)
            by_cases q : a = m + 1 ∧ c = x
            · rw [if_pos q, if_pos (by omega), if_pos (by omega), q.2]
              congr 1
              simp only [sx_s]
              rw [hz, Int.mul_comm (tg_s most)]
              omega
            · rw [if_neg q]
              by_cases q2 : a = m + 1 ∧ c ≤ W
              · rw [if_pos q2, if_pos q2]
                by_cases q3 : c < x
                · rw [if_pos q3, if_pos (by omega)]
                · rw [if_neg q3, if_neg (by omega)]
              · rw [if_neg q2, if_neg q2]
      refine vX3_together_189 ok ⟨fun c => ?_, fun _ => tw_ld_n r rfl (by show _ < 32; omega) (tw_ci.eq (by decide) (t_hiddenMany ok hq') ?_)⟩
      · rw [g30, nI_leI (by omega) (by omega)] at c
        omega
      · rw [g28, nI_leI (by omega) (by omega), bit (b r) i u (by omega) hi hu, bit (b r) j v (by omega) hj hv]
        refine ⟨fun c => skip s' hs (cs _ (by omega) (by omega)), fun c => ⟨fun c2 => skip s' hs ?_, fun c2 => ⟨fun c3 => skip s' hs ?_, fun c3 => ?_⟩⟩⟩
        · rw [ch _ (by omega)]
          unfold zs_w
          rw [if_neg (fun q => c2 q.1), Int.mul_zero]
        · rw [ch _ (by omega)]
          unfold zs_w
          rw [if_neg (fun q => c3 q.2), Int.mul_zero]
        · refine take (W + 1) 0 s' (by omega) ?_ (tu_ext hs fun a c hc => ?_)
          · rw [ch _ (by omega)]
            unfold zs_w
            rw [if_pos ⟨c2, c3⟩, Int.mul_one]
          · rw [if_neg (Nat.not_lt_zero c)]
  -- the costs laid
  have lay : ∀ n x s', x + n = W + 1 → tu_i s1 (fun a c => if a = m + 1 ∧ c < x then jJ (sx_D (lp_A L N T 0 lp_1) m b * lp_A L N T 0 (tg_aim i u j v most) c m) else tu_f s1 a c) s' → tw_T G l o ad h 5 mX3_together (tw_qi G o ad h K) 102 [some (.ref o), some (.int (nI i)), some (.int (nI u)), some (.int (nI j)), some (.int (nI v)), none, some (.int x6), some (.long (jJ (tg_s most))), none, some (.int (nI x)), none, none, none] [] s' := by
    intro n
    induction n with
    | zero =>
      intro x s' hx hs
      obtain rfl : x = W + 1 := by omega
      have g31 : s'.1 31 = nI (W + 1) := hs.2.2.1.trans h31
      refine vX3_together_102 ok ⟨fun _ => ?_, fun c => ?_⟩
      · refine rows m 0 s' (by omega) (tu_ext hs fun a c hc => ?_)
        by_cases q : a = m + 1 ∧ c ≤ W
        · rw [if_pos q, if_pos (by omega)]; simp only [sx_s]; rw [Int.sub_zero]
        · rw [if_neg q, if_neg (by omega)]
      · rw [g31] at c
        exact absurd (Int32.le_refl _) c
    | succ n ih =>
      intro x s' hx hs
      have g30 : s'.1 30 = nI m := hs.2.1.trans h30
      have g31 : s'.1 31 = nI (W + 1) := hs.2.2.1.trans h31
      have hq' := hq.f1 (hf.trans hs.1)
      have gl : s'.2.2.2 = jJ (sx_D (lp_A L N T 0 lp_1) m b) := hs.2.2.2.1.trans lowD
      have nx : ∀ y : Int64, y = jJ (sx_D (lp_A L N T 0 lp_1) m b * lp_A L N T 0 (tg_aim i u j v most) x m) → tw_T G l o ad h 5 mX3_together (tw_qi G o ad h K) 102 [some (.ref o), some (.int (nI i)), some (.int (nI u)), some (.int (nI j)), some (.int (nI v)), none, some (.int x6), some (.long (jJ (tg_s most))), none, some (.int (nI x + 1)), none, none, none] [] (tw_pl s' (97 * (m + 1) + x) y) := by
        intro y hy
        rw [nI_1]
        refine ih (x + 1) _ (by omega) (tu_ext (tu_pl hs (i := m + 1) (j := x) (by omega) _) fun a c hc => ?_)
        by_cases q : a = m + 1 ∧ c = x
        · rw [if_pos q, if_pos (by omega), q.2, hy]
        · rw [if_neg q]
          by_cases q2 : a = m + 1 ∧ c < x
          · rw [if_pos q2, if_pos (by omega)]
          · rw [if_neg q2, if_neg (by omega)]
      refine vX3_together_102 ok ⟨fun c => ?_, fun _ => tw_ci.eq (by decide) (t_hiddenMany ok hq') ?_⟩
      · rw [g31, nI_leI (by omega) (by omega)] at c
        omega
      · rw [nI_leI (by omega) (by omega), bit x i u (by omega) hi hu, bit x j v (by omega) hj hv, g30, nI_1]
        refine ⟨fun c => tw_ci.eq (by decide) (t_cell ok (m + 1) x) ⟨fun _ => tw_stl_n (97 * (m + 1) + x) rfl (by omega) (nx _ ?_), fun c => absurd rfl c⟩, fun c => ⟨fun c2 => tw_ci.eq (by decide) (t_cell ok (m + 1) x) ⟨fun _ => tw_stl_n (97 * (m + 1) + x) rfl (by omega) (nx _ ?_), fun c => absurd rfl c⟩, fun c2 => ⟨fun c3 => tw_ci.eq (by decide) (t_cell ok (m + 1) x) ⟨fun _ => tw_stl_n (97 * (m + 1) + x) rfl (by omega) (nx _ ?_), fun c => absurd rfl c⟩, fun c3 => tw_ci.eq (by decide) (t_cell ok (m + 1) x) ⟨fun c => absurd c (by decide), fun _ => tw_stl_n (97 * (m + 1) + x) rfl (by omega) (nx _ ?_)⟩⟩⟩⟩
        · rw [cs x (by omega) (by omega), Int.mul_zero]; rfl
        · rw [ch x (by omega)]
          unfold zs_w
          rw [if_neg (fun q => c2 q.1), Int.mul_zero, Int.mul_zero]; rfl
        · rw [ch x (by omega)]
          unfold zs_w
          rw [if_neg (fun q => c3 q.2), Int.mul_zero, Int.mul_zero]; rfl
        · rw [ch x (by omega), gl, jJ_mul]
          unfold zs_w
          rw [if_pos ⟨c2, c3⟩, Int.mul_one, Int.mul_comm]
  exact lay (W + 1) 0 s1 (by omega) ⟨tw_f1.refl s1, rfl, rfl, rfl, rfl, fun a c hc => (if_neg (by omega)).symm⟩
/-- what is asked together is well asked -/
def zs_tok (L : Nat) (x1 x2 x3 x4 : Int32) : Bool := inB x1 L && (inB x3 L && (decide (x1 ≠ x3) && (inB x2 2 && inB x4 2)))
theorem t_together (ok : tw_ok G o ad) (x1 x2 x3 x4 x5 x6 : Int32) (b : Bool) (hb : s.1 14 = b2i b) (hq : b = true → tr_q s L N T) : wq_C G l 5 0 0 mX3_together [.ref o, .int x1, .int x2, .int x3, .int x4, .int x5, .int x6] (tw_h G o ad s h) (tw_qi G o ad h fun r s' => ∃ v t, ((b && zs_tok L x1 x2 x3 x4) = false → v = -1 ∧ t = 1) ∧ ((b && zs_tok L x1 x2 x3 x4) = true → (¬ zs_mix L N T ∧ v = -1 ∧ t = 6) ∨ (zs_mix L N T ∧ t = 0 ∧ zs_frac N (zs_tg L N T x1.toNatClampNeg x2.toNatClampNeg x3.toNatClampNeg x4.toNatClampNeg (decide (x5 ≠ 0))) x6 v)) ∧ tw_e s v t r s') := by
  generalize hK : (fun (r : Int32) (s' : tw_S) => ∃ v t, ((b && zs_tok L x1 x2 x3 x4) = false → v = -1 ∧ t = 1) ∧ ((b && zs_tok L x1 x2 x3 x4) = true → (¬ zs_mix L N T ∧ v = -1 ∧ t = 6) ∨ (zs_mix L N T ∧ t = 0 ∧ zs_frac N (zs_tg L N T x1.toNatClampNeg x2.toNatClampNeg x3.toNatClampNeg x4.toNatClampNeg (decide (x5 ≠ 0))) x6 v)) ∧ tw_e s v t r s') = K
  refine wq_C.of pn_X3 (Nat.le_of_ble_eq_true rfl) rfl (vX3_together_0 ok (tw_cv.eq (by decide) (t_good ok) ?_))
  have no1 : (b && zs_tok L x1 x2 x3 x4) = false → tw_ci G l o ad h 5 mX3_no [.ref o, .int 1] (tw_g s) (fun y s' => K y s') := by
    intro e
    refine tw_ci.is (by decide) (t_no ok 1) ?_
    subst hK
    exact ⟨-1, 1, fun _ => ⟨rfl, rfl⟩, fun q => absurd (e.symm.trans q) (by decide), tw_e_no⟩
  have hg : (tw_g s).1 14 = b2i b := (tw_g_14 s).trans hb
  refine tw_ci.eq (by decide) (t_isLook ok x1 b hg hq) ?_
  rw [b2i_0]
  refine ⟨fun c => no1 (by unfold zs_tok; cases b <;> simp_all), fun c => tw_ci.eq (by decide) (t_isLook ok x3 b hg hq) ?_⟩
  simp only [Bool.not_eq_false, Bool.and_eq_true] at c
  obtain ⟨rfl, c1⟩ := c
  have hq : tr_q (tw_g s) L N T := hq rfl
  rw [b2i_0]
  refine ⟨fun c => no1 (by unfold zs_tok; simp_all), fun c => ⟨fun c2 => no1 (by unfold zs_tok; simp [c2]), fun c2 => tw_ci.eq (by decide) (t_isBit ok x2) ?_⟩⟩
  simp only [Bool.true_and, Bool.not_eq_false] at c
  rw [b2i_0]
  refine ⟨fun c3 => no1 (by unfold zs_tok; simp [c3]), fun c3 => tw_ci.eq (by decide) (t_isBit ok x4) ?_⟩
  simp only [Bool.not_eq_false] at c3
  rw [b2i_0]
  refine ⟨fun c4 => ?_, fun c4 => no1 (by unfold zs_tok; simp [c4])⟩
  simp only [Bool.not_eq_false] at c4
  have hok : (true && zs_tok L x1 x2 x3 x4) = true := by unfold zs_tok; simp [c1, c, c2, c3, c4]
  obtain ⟨i, hi, rfl⟩ := inB_of c1
  obtain ⟨u, hu, rfl⟩ := inB_of c3
  obtain ⟨j, hj, rfl⟩ := inB_of c
  obtain ⟨v, hv, rfl⟩ := inB_of c4
  have hL := hq.2.2.2.2.2.1
  have hN := hq.2.2.2.2.2.2
  have hij : i ≠ j := fun q => c2 (by rw [q])
  have fin : ∀ r s', tw_f1 (tw_g s) s' → zs_mix L N T → zs_frac N (zs_tg L N T i u j v (decide (x5 ≠ 0))) x6 r → K r s' := by
    intro r s' hf mx fr
    subst hK
    refine ⟨r, 0, fun q => absurd (hok.symm.trans q) (by decide), fun _ => Or.inr ⟨mx, rfl, ?_⟩, tw_e_f hf⟩
    rw [nI_clamp (by omega), nI_clamp (by omega), nI_clamp (by omega), nI_clamp (by omega)]
    exact fr
  refine tw_ci.use (by decide) (t_isMixed ok hq) ?_
  rintro y s1 (⟨hT0, rfl, hs1⟩ | ⟨hT, b, tm, rfl⟩)
  · refine ⟨fun _ => tw_ld_n 0 rfl (by decide) ?_, fun c => absurd c (by decide)⟩
    have e00 : s1.2.1 15 0 = nI 0 := by rw [hs1, hq.1.1, hT0]; rfl
    rw [e00]
    have mx : zs_mix L N T := by rw [hT0]; exact ⟨N, 1, zs_opt_nil, by omega⟩
    have nil := zs_tg_nil (N := N) hi hj hij (show u ≤ 1 by omega) (show v ≤ 1 by omega)
    rw [← hT0] at nil
    have f0 : tw_f1 (tw_g s) s1 := by rw [hs1]; exact tw_f1.refl _
    have e1 : ((N : Int) * 1).toNat = N := by omega
    have y1 : ∀ m : Bool, m = true → zs_frac N (zs_tg L N T i u j v m) x6 1 := by
      rintro m rfl
      refine ⟨_, _, nil true, by omega, by simp, ?_⟩
      rw [e1]
      simp only [if_true]
      rw [Int.toNat_natCast, zs_low_self x6 (by omega)]
    have y0 : ∀ m : Bool, m = false → zs_frac N (zs_tg L N T i u j v m) x6 (if x6 = 0 then 0 else 1) := by
      rintro m rfl
      refine ⟨_, _, nil false, by omega, by simp, ?_⟩
      rw [e1]
      simp only [Bool.false_eq_true, if_false]
      rw [Int.toNat_zero, zs_low_zero x6 (by omega)]
    refine ⟨fun c => absurd rfl c, fun _ => ⟨fun c => fin _ _ f0 mx ?_, fun c => ⟨fun c2 => fin _ _ f0 mx ?_, fun c2 => fin _ _ f0 mx ?_⟩⟩⟩
    · cases e : decide (x5 ≠ 0) with
      | true => exact y1 true rfl
      | false => have := y0 false rfl; rw [if_neg c] at this; exact this
    · have := y0 (decide (x5 ≠ 0)) (by simp [c2]); rw [if_pos c] at this; exact this
    · exact y1 (decide (x5 ≠ 0)) (by simp [c2])
  · have op := tm_opt hq hT tm
    rw [b2i_0]
    refine ⟨fun c => tw_ld_n 0 rfl (by decide) ?_, fun c => ?_⟩
    · simp only [decide_eq_false_iff_not, Decidable.not_not] at c
      have mx := (zs_mix_iff op).mpr c
      have hq1 := hq.f1 tm.1.1
      have h8 := tr_8 hq
      have e0 : nI T.length = 0 ↔ T.length = 0 := nI_eq (b := 0) (by omega) (by omega)
      rw [show s1.2.1 15 0 = nI T.length from hq1.1.1, e0]
      refine ⟨fun _ => ⟨fun c5 => ?_, fun c5 => ?_⟩, fun c => by omega⟩
      · have := t_tog2 (h := h) (l := l) ok hq hT tm mx hi hj (show u ≤ 1 by omega) (show v ≤ 1 by omega) false x6 (K := K) (fun r s' hf fr => fin r s' hf mx (by simp only [c5]; exact fr))
        exact this
      · have := t_tog2 (h := h) (l := l) ok hq hT tm mx hi hj (show u ≤ 1 by omega) (show v ≤ 1 by omega) true x6 (K := K) (fun r s' hf fr => fin r s' hf mx (by simp only [ne_eq, c5, not_false_eq_true, decide_true]; exact fr))
        exact this
    · simp only [decide_eq_false_iff_not] at c
      refine tw_ci.is (by decide) (t_no ok 6) ?_
      subst hK
      exact ⟨-1, 6, fun q => absurd (hok.symm.trans q) (by decide), fun _ => Or.inl ⟨fun q => c ((zs_mix_iff op).mp q), rfl, rfl⟩, tw_e_no' tm.1.1⟩
end TW19
