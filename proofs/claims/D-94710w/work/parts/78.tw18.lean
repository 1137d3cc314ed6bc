/-! CONTRACTS of the reference: mixed, share, level -/
set_option maxRecDepth 100000
section TW18
variable {G : wq_G} {l : Launch} {o : Nat} {ad : Nat → Nat} {h : wq_H} {s : tw_S} {L N : Nat} {T : zs_T}
/-- where the reference stands once it has found the most -/
def tm_i (L N : Nat) (T : zs_T) (s : tw_S) (b : Nat → Nat) (s' : tw_S) : Prop := tg_i (lp_A L N T 0 lp_1) (lp_A L N T 0 lp_1) (lp_m T 0) (2 ^ L + lp_m T 0) (lp_m T 0) (fun _ => true) s b s' ∧ ∀ c, c < 2 ^ L + lp_m T 0 → 0 ≤ sx_t (lp_A L N T 0 lp_1) (lp_m T 0) b (lp_m T 0) c
abbrev tm_z (L N : Nat) (T : zs_T) (b : Nat → Nat) : Int := sx_t (lp_A L N T 0 lp_1) (lp_m T 0) b (lp_m T 0) (2 ^ L + lp_m T 0)
abbrev tm_D (L N : Nat) (T : zs_T) (b : Nat → Nat) : Int := sx_D (lp_A L N T 0 lp_1) (lp_m T 0) b
theorem tm_m {T : zs_T} (h8 : T.length ≤ 8) (hT : 0 < T.length) : 1 ≤ lp_m T 0 ∧ lp_m T 0 ≤ 32 := by
  have h1 := lp_ro_le T T.length
  have h2 := lp_ro_ge T T.length
  unfold lp_m; omega
theorem tm_bs (hq : tr_q s L N T) (hT : 0 < T.length) {aim : Nat → Int} (ha : ∀ h, h < 2 ^ L → aim h * aim h ≤ 1) : lp_bs (lp_A L N T 0 aim) (lp_m T 0) (2 ^ L + lp_m T 0) :=
  lp_bsA hq.2.2.1 hq.2.2.2.2.2.1.2 (by omega) hq.2.2.2.2.2.2.2 ha (tm_m (tr_8 hq) hT).1
theorem tm_opt (hq : tr_q s L N T) (hT : 0 < T.length) {s1 s' : tw_S} {b : Nat → Nat} (h : tm_i L N T s1 b s') : zs_opt L N T (tm_z L N T b) (tm_D L N T b) :=
  lp_opt1 hq.2.2.1 (Or.inr ⟨rfl, hT⟩) h.1.2.2.2.2.2.2.1 h.2
theorem tm_bd (hq : tr_q s L N T) (hT : 0 < T.length) {s1 s' : tw_S} {b : Nat → Nat} (h : tm_i L N T s1 b s') : (tm_z L N T b).natAbs ≤ 18000000000 ∧ (tm_D L N T b).natAbs ≤ 100000000 := by
  have bs := tm_bs hq hT (aim := lp_1) (fun _ _ => (by decide : (-1 : Int) * -1 ≤ 1))
  have hb := h.1.2.2.2.2.2.2.1.2.1
  exact ⟨(bs.2 b hb (lp_m T 0) (Nat.le_refl _)).2, bs.D hb⟩
theorem tm_cells (hq : tr_q s L N T) {s1 s' : tw_S} {b : Nat → Nat} (h : tm_i L N T s1 b s') : s'.2.2.1 (97 * lp_m T 0 + (2 ^ L + lp_m T 0)) = jJ (tm_z L N T b) ∧ s'.2.2.2 = jJ (tm_D L N T b) :=
  ⟨h.1.2.2.2.2.1.2.2 _ (Nat.le_refl _), h.1.2.2.2.2.1.1⟩
theorem t_isMixed (ok : tw_ok G o ad) (hq : tr_q s L N T) : wq_C G l 3 0 0 mX3_isMixed [.ref o] (tw_h G o ad s h) (tw_qi G o ad h fun r s' => (T = [] ∧ r = 1 ∧ s' = s) ∨ (0 < T.length ∧ ∃ b, tm_i L N T s b s' ∧ r = b2i (decide (tm_z L N T b = N * tm_D L N T b)))) := by
  have h8 := tr_8 hq
  have hL := hq.2.2.2.2.2.1
  have hN := hq.2.2.2.2.2.2
  have hp := pow_64 hL.2
  refine wq_C.of pn_X3 (Nat.le_of_ble_eq_true rfl) rfl (vX3_isMixed_0 ok (tw_ld_n 0 rfl (by decide) ?_))
  have e0 : nI T.length = 0 ↔ T.length = 0 := nI_eq (b := 0) (by omega) (by omega)
  rw [show s.2.1 15 0 = nI T.length from hq.1.1, e0]
  refine ⟨fun c => ?_, fun c => ?_⟩
  · have hT : 0 < T.length := by omega
    obtain ⟨m1, m2⟩ := tm_m h8 hT
    have bs := tm_bs hq hT (aim := lp_1) (fun _ _ => (by decide : (-1 : Int) * -1 ≤ 1))
    refine tw_cv.use (by decide) (t_layTab ok hq) ?_
    rintro s2 ⟨h2, hlow⟩
    rw [h2.2.1]
    have fst := sx_first (lp_sl (L := L) (N := N) (T := T) (u := 0) (aim := lp_1))
    have iv : lp_iv (lp_A L N T 0 lp_1) (lp_m T 0) (2 ^ L + lp_m T 0) (fun r => 2 ^ L + r) (lp_m T 0) (tu_f s2) s2.2.2.2 := by
      refine ⟨by rw [hlow, fst.1], fun r c hr hc => ?_, fun c hc => ?_⟩
      · rw [fst.2 r c (by omega)]
        exact (h2.2.2.2.2 r c (by omega) hc).trans (by dsimp only; rw [if_pos (by omega)])
      · rw [fst.2 _ c (Nat.le_refl _)]
        exact (h2.2.2.2.2 _ c (by omega) hc).trans (by dsimp only; rw [if_pos (Nat.le_refl _)])
    have tg : tg_i (lp_A L N T 0 lp_1) (lp_A L N T 0 lp_1) (lp_m T 0) (2 ^ L + lp_m T 0) (lp_m T 0) (fun _ => true) s2 (fun r => 2 ^ L + r) s2 := ⟨tw_f1.refl _, h2.2.1, h2.2.2.1, h2.2.2.2.1, iv, iv, sx_first_ok lp_sl lp_A3, fun e => by omega⟩
    refine tw_cv.use (by decide) (t_goesUp ok (by omega) (by omega) (Or.inl ⟨rfl, fun _ => rfl⟩) bs bs lp_A0 (fun c hc => lp_A2 (Or.inr ⟨rfl, hT⟩) hc) tg) ?_
    rintro s3 ⟨b, g1, g2⟩
    have tm : tm_i L N T s b s3 := ⟨⟨h2.1.trans g1.1, g1.2⟩, fun c hc => g2 c hc rfl⟩
    rw [g1.2.1, g1.2.2.1, nI_sub1 (Nat.le_add_left 1 _), Nat.add_sub_cancel]
    refine tw_ci.eq (by decide) (t_cell ok (lp_m T 0) (2 ^ L + lp_m T 0)) (tw_ldl_n (97 * lp_m T 0 + (2 ^ L + lp_m T 0)) rfl (by omega) (tw_ld_n 49 rfl (by decide) ?_))
    have hq3 := hq.f1 tm.1.1
    rw [(tm_cells hq tm).1, (tm_cells hq tm).2, hq3.2.2.2.2.1, jJ_n (by omega), jJ_mul, lg_cmp_eq]
    obtain ⟨b1, b2⟩ := tm_bd hq hT tm
    have b3 := nab_mul (b := (N : Int)) (Q := 60) b2 (by omega)
    rw [jJ_inj (by omega) (by omega) (by omega) (by omega), Int.mul_comm (tm_D L N T b)]
    exact ⟨fun c => Or.inr ⟨hT, b, tm, b2i_not c⟩, fun c => Or.inr ⟨hT, b, tm, b2i_of c⟩⟩
  · exact Or.inl ⟨List.length_eq_zero_iff.mp c, rfl, rfl⟩
/-- share's answer -/
theorem t_share (ok : tw_ok G o ad) (x : Int32) (b : Bool) (hb : s.1 14 = b2i b) (hq : b = true → tr_q s L N T) : wq_C G l 4 0 0 mX3_share [.ref o, .int x] (tw_h G o ad s h) (tw_qi G o ad h fun r s' => ∃ v, (b = true → zs_frac N (zs_opt L N T) x v) ∧ tw_e s (if b then v else -1) (if b then 0 else 1) r s') := by
  refine wq_C.of pn_X3 (Nat.le_of_ble_eq_true rfl) rfl (vX3_share_0 ok (tw_cv.eq (by decide) (t_good ok) ?_))
  rw [tw_g_14, hb, b2i_0]
  refine ⟨fun c => ?_, fun c => ?_⟩
  · simp only [Bool.not_eq_false] at c
    subst c
    have hq : tr_q (tw_g s) L N T := hq rfl
    have hN := hq.2.2.2.2.2.2
    refine tw_ci.use (by decide) (t_isMixed ok hq) ?_
    rintro y s1 (⟨rfl, rfl, rfl⟩ | ⟨hT, b, tm, rfl⟩)
    · refine ⟨fun c => absurd c (by decide), fun _ => ⟨1, fun _ => ⟨N, 1, zs_opt_nil, by omega, by omega, ?_⟩, tw_e_g⟩⟩
      have e : ((N : Int) * 1).toNat = (N : Int).toNat := by rw [Int.mul_one]
      rw [e, zs_low_self x (by omega)]
    · have op := tm_opt hq hT tm
      obtain ⟨b1, b2⟩ := tm_bd hq hT tm
      have hD := op.1
      have hz := zs_opt_nn op
      have b3 := nab_mul (b := (N : Int)) (Q := 60) b2 (by omega)
      have hND : 0 < (N : Int) * tm_D L N T b := Int.mul_pos (by omega) hD
      rw [b2i_0]
      refine ⟨fun c => ?_, fun c => ?_⟩
      · have hq1 := hq.f1 tm.1.1
        obtain ⟨m1, m2⟩ := tm_m (tr_8 hq) hT
        have hp := pow_64 hq.2.2.2.2.2.1.2
        rw [tm.1.2.1, tm.1.2.2.1, nI_sub1 (Nat.le_add_left 1 _), Nat.add_sub_cancel]
        refine tw_ci.eq (by decide) (t_cell ok (lp_m T 0) (2 ^ L + lp_m T 0)) (tw_ldl_n (97 * lp_m T 0 + (2 ^ L + lp_m T 0)) rfl (by omega) (tw_ld_n 49 rfl (by decide) ?_))
        rw [(tm_cells hq tm).1, (tm_cells hq tm).2, hq1.2.2.2.2.1, jJ_n (by omega), jJ_mul, Int.mul_comm (tm_D L N T b)]
        have e1 : tm_z L N T b = ((tm_z L N T b).toNat : Int) := by omega
        have e2 : (N : Int) * tm_D L N T b = (((N : Int) * tm_D L N T b).toNat : Int) := by omega
        rw [e1, e2]
        rw [Int.mul_comm] at b3
        refine tw_ci.is (by decide) (t_lowest ok (by omega) (by omega) (by omega) x) ?_
        exact ⟨_, fun _ => ⟨_, _, op, hD, hz, rfl⟩, tw_e_f tm.1.1⟩
      · simp only [decide_eq_false_iff_not, Decidable.not_not] at c
        refine ⟨1, fun _ => ⟨_, _, op, hD, hz, ?_⟩, tw_e_f tm.1.1⟩
        rw [c, zs_low_self x (by omega)]
  · subst c
    exact tw_ci.is (by decide) (t_no ok 1) ⟨0, fun q => absurd q (by decide), tw_e_no⟩
/-- how a table's share is mixed, and else how far it can't be hidden -/
def zs_lev (L : Nat) (T : zs_T) : Int32 := if zs_some L T false = 0 then 1 else if 0 < zs_some L T true then 2 else 3
theorem t_level (ok : tw_ok G o ad) (b : Bool) (hb : s.1 14 = b2i b) (hq : b = true → tr_q s L N T) : wq_C G l 4 0 0 mX3_level [.ref o] (tw_h G o ad s h) (tw_qi G o ad h fun r s' => ∃ v, (b = true → (zs_mix L N T ∧ v = 0) ∨ (¬ zs_mix L N T ∧ v = zs_lev L T)) ∧ tw_e s (if b then v else -1) (if b then 0 else 1) r s') := by
  refine wq_C.of pn_X3 (Nat.le_of_ble_eq_true rfl) rfl (vX3_level_0 ok (tw_cv.eq (by decide) (t_good ok) ?_))
  rw [tw_g_14, hb, b2i_0]
  refine ⟨fun c => ?_, fun c => ?_⟩
  · simp only [Bool.not_eq_false] at c
    subst c
    have hq : tr_q (tw_g s) L N T := hq rfl
    have hN := hq.2.2.2.2.2.2
    have h8 := tr_8 hq
    refine tw_ci.use (by decide) (t_isMixed ok hq) ?_
    rintro y s1 (⟨rfl, rfl, rfl⟩ | ⟨hT, b, tm, rfl⟩)
    · exact ⟨fun c => absurd c (by decide), fun _ => ⟨0, fun _ => Or.inl ⟨⟨N, 1, zs_opt_nil, by omega⟩, rfl⟩, tw_e_g⟩⟩
    · have op := tm_opt hq hT tm
      rw [b2i_0]
      refine ⟨fun c => ?_, fun c => ?_⟩
      · simp only [decide_eq_false_iff_not] at c
        have nm : ¬ zs_mix L N T := fun q => c ((zs_mix_iff op).mp q)
        have hq1 := hq.f1 tm.1.1
        have fin : tw_e s (zs_lev L T) 0 (zs_lev L T) s1 := tw_e_f tm.1.1
        generalize hK : (fun (r : Int32) (s' : tw_S) => ∃ v, (true = true → (zs_mix L N T ∧ v = 0) ∨ (¬ zs_mix L N T ∧ v = zs_lev L T)) ∧ tw_e s (if true = true then v else -1) (if true = true then 0 else 1) r s') = K
        have hcnt : ∀ q k, k ≤ T.length → fo (fun k a => fo (fun o a => if decide (0 < (zs_at T k).2.2.1 o) && (zs_ext L T k o == q) then a + 1 else a) (zs_out (zs_at T k)) a) k 0 ≤ 4 * k := by
          intro q k
          induction k with
          | zero => intro _; exact Nat.le_refl _
          | succ k ih =>
            intro hk
            have ih := ih (by omega)
            have h4 := zs_out_le (zs_at T k)
            have inn : ∀ n a, fo (fun o a => if decide (0 < (zs_at T k).2.2.1 o) && (zs_ext L T k o == q) then a + 1 else a) n a ≤ a + n := by
              intro n a
              induction n with
              | zero => exact Nat.le_refl _
              | succ n ih => simp only [fo]; split <;> omega
            have := inn (zs_out (zs_at T k)) (fo (fun k a => fo (fun o a => if decide (0 < (zs_at T k).2.2.1 o) && (zs_ext L T k o == q) then a + 1 else a) (zs_out (zs_at T k)) a) k 0)
            simp only [fo] at this ⊢
            omega
        have key : ∀ n k, k + n = T.length → tw_T G l o ad h 4 mX3_level (tw_qi G o ad h K) 32 [some (.ref o), some (.int (nI (fo (fun k a => fo (fun o a => if decide (0 < (zs_at T k).2.2.1 o) && (zs_ext L T k o == true) then a + 1 else a) (zs_out (zs_at T k)) a) k 0))), some (.int (nI (fo (fun k a => fo (fun o a => if decide (0 < (zs_at T k).2.2.1 o) && (zs_ext L T k o == false) then a + 1 else a) (zs_out (zs_at T k)) a) k 0))), some (.int (nI k)), none] [] s1 := by
          intro n
          induction n with
          | zero =>
            intro k hk
            obtain rfl : k = T.length := by omega
            have c1 := hcnt true T.length (Nat.le_refl _)
            have c2 := hcnt false T.length (Nat.le_refl _)
            refine vX3_level_32 ok (tw_ld_n 0 rfl (by decide) ?_)
            rw [show s1.2.1 15 0 = nI T.length from hq1.1.1]
            refine ⟨fun _ => ?_, fun c => absurd (Int32.le_refl _) c⟩
            have v0 : ∀ v, v = zs_lev L T → K v s1 := by
              intro v hv
              subst hK
              rw [hv]
              exact ⟨zs_lev L T, fun _ => Or.inr ⟨nm, rfl⟩, fin⟩
            show (¬ nI (zs_some L T false) = 0 → _) ∧ (nI (zs_some L T false) = 0 → _)
            have d1 : zs_some L T false ≤ 4 * T.length := c2
            have d2 : zs_some L T true ≤ 4 * T.length := c1
            rw [show (0 : Int32) = nI 0 from rfl, nI_eq (by omega) (by omega)]
            refine ⟨fun e1 => ⟨fun e2 => v0 _ ?_, fun e2 => v0 _ ?_⟩, fun e1 => v0 _ ?_⟩
            · have e3 : nI (zs_some L T true) ≤ nI 0 := e2
              rw [nI_leI (by omega) (by omega)] at e3
              unfold zs_lev; rw [if_neg e1, if_neg (by omega)]
            · have e3 : ¬ nI (zs_some L T true) ≤ nI 0 := e2
              rw [nI_leI (by omega) (by omega)] at e3
              unfold zs_lev; rw [if_neg e1, if_pos (by omega)]
            · unfold zs_lev; rw [if_pos e1]
          | succ n ih =>
            intro k hk
            have ih := ih (k + 1) (by omega)
            have h4 := zs_out_le (zs_at T k)
            refine vX3_level_32 ok (tw_ld_n 0 rfl (by decide) ?_)
            rw [show s1.2.1 15 0 = nI T.length from hq1.1.1]
            refine ⟨fun c => ?_, fun _ => ?_⟩
            · rw [nI_leI (by omega) (by omega)] at c
              omega
            · have inner : ∀ n j a1 a2, j + n = zs_out (zs_at T k) → (a1 = fo (fun o a => if decide (0 < (zs_at T k).2.2.1 o) && (zs_ext L T k o == true) then a + 1 else a) j (fo (fun k a => fo (fun o a => if decide (0 < (zs_at T k).2.2.1 o) && (zs_ext L T k o == true) then a + 1 else a) (zs_out (zs_at T k)) a) k 0)) → (a2 = fo (fun o a => if decide (0 < (zs_at T k).2.2.1 o) && (zs_ext L T k o == false) then a + 1 else a) j (fo (fun k a => fo (fun o a => if decide (0 < (zs_at T k).2.2.1 o) && (zs_ext L T k o == false) then a + 1 else a) (zs_out (zs_at T k)) a) k 0)) → tw_T G l o ad h 4 mX3_level (tw_qi G o ad h K) 45 [some (.ref o), some (.int (nI a1)), some (.int (nI a2)), some (.int (nI k)), some (.int (nI j))] [] s1 := by
                intro n
                induction n with
                | zero =>
                  intro j a1 a2 hj h1 h2
                  obtain rfl : j = zs_out (zs_at T k) := by omega
                  refine vX3_level_45 ok (tw_ci.eq (by decide) (t_outcomes ok hq1 (by omega)) ⟨fun _ => ?_, fun c => absurd (Int32.le_refl _) c⟩)
                  rw [nI_1, h1, h2]
                  exact ih
                | succ n ih2 =>
                  intro j a1 a2 hj h1 h2
                  have htm := ok_tm hq.2.2.1 (k := k) (by omega) (o := j) (by omega)
                  have s1' : ∀ q : Bool, fo (fun o a => if decide (0 < (zs_at T k).2.2.1 o) && (zs_ext L T k o == q) then a + 1 else a) (j + 1) (fo (fun k a => fo (fun o a => if decide (0 < (zs_at T k).2.2.1 o) && (zs_ext L T k o == q) then a + 1 else a) (zs_out (zs_at T k)) a) k 0) = if decide (0 < (zs_at T k).2.2.1 j) && (zs_ext L T k j == q) then fo (fun o a => if decide (0 < (zs_at T k).2.2.1 o) && (zs_ext L T k o == q) then a + 1 else a) j (fo (fun k a => fo (fun o a => if decide (0 < (zs_at T k).2.2.1 o) && (zs_ext L T k o == q) then a + 1 else a) (zs_out (zs_at T k)) a) k 0) + 1 else fo (fun o a => if decide (0 < (zs_at T k).2.2.1 o) && (zs_ext L T k o == q) then a + 1 else a) j (fo (fun k a => fo (fun o a => if decide (0 < (zs_at T k).2.2.1 o) && (zs_ext L T k o == q) then a + 1 else a) (zs_out (zs_at T k)) a) k 0) := fun q => rfl
                  refine vX3_level_45 ok (tw_ci.eq (by decide) (t_outcomes ok hq1 (by omega)) ⟨fun c => ?_, fun _ => tw_ld_n (17 + 4 * k + j) (by rw [nI_lit 17, nI_lit 4, nI_mul, nI_add, nI_add]) (by show _ < 346; omega) ?_⟩)
                  · rw [nI_leI (by omega) (by omega)] at c
                    omega
                  · rw [(tr_at hq1 (by omega)).2.2.1 j (by omega), show (0 : Int32) = nI 0 from rfl, nI_eq (by omega) (by omega)]
                    refine ⟨fun e1 => tw_ci.eq (by decide) (t_doesExtend ok hq1 (by omega) (by omega)) ?_, fun e1 => ?_⟩
                    · rw [show nI 0 = (0 : Int32) from rfl, b2i_0]
                      have e1 : 0 < (zs_at T k).2.2.1 j := by omega
                      refine ⟨fun e2 => ?_, fun e2 => ?_⟩
                      · rw [nI_1, nI_1]
                        refine ih2 (j + 1) a1 (a2 + 1) (by omega) ?_ ?_
                        · rw [s1' true, h1]; simp [e2]
                        · rw [s1' false, h2]; simp [e1, e2]
                      · simp only [Bool.not_eq_false] at e2
                        rw [nI_1, nI_1]
                        refine ih2 (j + 1) (a1 + 1) a2 (by omega) ?_ ?_
                        · rw [s1' true, h1]; simp [e1, e2]
                        · rw [s1' false, h2]; simp [e2]
                    · rw [nI_1]
                      refine ih2 (j + 1) a1 a2 (by omega) ?_ ?_
                      · rw [s1' true, h1]; simp [e1]
                      · rw [s1' false, h2]; simp [e1]
              exact inner (zs_out (zs_at T k)) 0 _ _ (by omega) rfl rfl
        have := key T.length 0 (by omega)
        exact this
      · simp only [decide_eq_false_iff_not, Decidable.not_not] at c
        exact ⟨0, fun _ => Or.inl ⟨(zs_mix_iff op).mpr c, rfl⟩, tw_e_f tm.1.1⟩
  · subst c
    exact tw_ci.is (by decide) (t_no ok 1) ⟨0, fun q => absurd q (by decide), tw_e_no⟩
end TW18
