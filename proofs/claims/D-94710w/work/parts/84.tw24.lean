/-! CONTRACTS of the reference: shift, stake, undo, redo, mark, back, act -/
set_option maxRecDepth 100000
theorem zs_isO_of {T : zs_T} {x y : Int32} (h8 : T.length ≤ 8) (h : zs_isO T x y = true) : ∃ k p, k < T.length ∧ p < zs_out (zs_at T k) ∧ x = nI k ∧ y = nI p := by
  unfold zs_isO at h
  rw [Bool.and_eq_true] at h
  obtain ⟨k, hk, rfl⟩ := inB_of h.1
  rw [nI_clamp (by omega)] at h
  obtain ⟨p, hp, rfl⟩ := inB_of h.2
  exact ⟨k, p, hk, hp, rfl, rfl⟩
theorem shf_ok {L N : Nat} {e : zs_E} {x y n : Nat} (h : e_ok L N e) (hx : x < zs_out e) (hy : y < zs_out e) (hne : x ≠ y) (hn : n ≤ e.2.2.1 x) : e_ok L N (zs_shf e x y n) := by
  obtain ⟨h1, h2, h3, h4⟩ := h
  refine ⟨h1, h2, ?_, h4⟩
  show match e.2.1 with
    | none => (zs_shf e x y n).2.2.1 0 + (zs_shf e x y n).2.2.1 1 = N
    | some _ => (zs_shf e x y n).2.2.1 0 + (zs_shf e x y n).2.2.1 1 + (zs_shf e x y n).2.2.1 2 + (zs_shf e x y n).2.2.1 3 = N
  unfold zs_out at hx hy
  cases q : e.2.1 with
  | none =>
    rw [q] at h3 hx hy
    simp only at h3 hx hy ⊢
    simp only [zs_shf]
    obtain rfl | rfl : x = 0 ∨ x = 1 := by omega
    all_goals obtain rfl | rfl : y = 0 ∨ y = 1 := by omega
    all_goals simp_all
    all_goals omega
  | some b =>
    rw [q] at h3 hx hy
    simp only at h3 hx hy ⊢
    simp only [zs_shf]
    obtain rfl | rfl | rfl | rfl : x = 0 ∨ x = 1 ∨ x = 2 ∨ x = 3 := by omega
    all_goals obtain rfl | rfl | rfl | rfl : y = 0 ∨ y = 1 ∨ y = 2 ∨ y = 3 := by omega
    all_goals simp_all
    all_goals omega
theorem nc_len {T : zs_T} : (zs_nc T).length = T.length := by simp [zs_nc]
theorem nc_get {T : zs_T} {k : Nat} {e : zs_E} (h : (zs_nc T)[k]? = some e) : ∃ e0, T[k]? = some e0 ∧ e = (e0.1, e0.2.1, e0.2.2.1, fun _ => 0) := by
  unfold zs_nc at h
  rw [List.getElem?_map] at h
  cases q : T[k]? with
  | none => rw [q] at h; cases h
  | some e0 => rw [q] at h; cases h; exact ⟨e0, rfl, rfl⟩
theorem nc_ok {L N : Nat} {T : zs_T} (h : zs_ok L N T) : zs_ok L N (zs_nc T) := by
  refine ⟨by rw [nc_len]; exact h.1, fun e he => ?_⟩
  unfold zs_nc at he
  obtain ⟨e0, h1, rfl⟩ := List.mem_map.mp he
  obtain ⟨g1, g2, g3, g4⟩ := h.2 e0 h1
  exact ⟨g1, g2, g3, fun _ _ => Nat.zero_le _⟩
theorem nc_tab {a : Nat → Int32} {T : zs_T} (h : ta_tab a T) : ta_tab a (zs_nc T) := by
  refine ⟨by rw [nc_len]; exact h.1, fun k e he => ?_⟩
  obtain ⟨e0, h1, rfl⟩ := nc_get he
  exact h.2 k e0 h1
theorem nc_coin {c : Nat → Int32} {T : zs_T} (h8 : T.length ≤ 8) (hc : ∀ k, k < 32 → c k = 0) : ta_coin c (zs_nc T) := by
  intro k e he x hx
  obtain ⟨e0, h1, rfl⟩ := nc_get he
  have hk := (List.getElem?_eq_some_iff.mp h1).1
  have := zs_out_le (e0.1, e0.2.1, e0.2.2.1, fun _ => 0)
  rw [hc _ (by omega)]; rfl
section TW24
variable {G : wq_G} {l : Launch} {o : Nat} {ad : Nat → Nat} {h : wq_H} {s : tw_S} {D : zs_D}
theorem t_deny (ok : tw_ok G o ad) (hD : tr_d s D) (t : Int32) {Q : Int32 → tw_S → Prop} {dd : Nat} (hd : 0 < dd) (hQ : ∀ s', tr_d s' (dk_t D t) → Q 0 s') : tw_ci G l o ad h dd mX3_isNot [.ref o, .int t] (tw_g s) Q := by
  refine tw_ci.is hd (t_isNot ok t) (hQ _ ?_)
  exact (hD.ask (v := 0) (t := t) ⟨rfl, (tw_g_fr s).trans (tw_fr_pi (by decide)), tw_pi_same⟩).2
theorem t_shift (ok : tw_ok G o ad) (x y z n : Int32) (hD : tr_d s D) (dk : dok D) : wq_C G l 4 0 0 mX3_shift [.ref o, .int x, .int y, .int z, .int n] (tw_h G o ad s h) (tw_qi G o ad h fun r s' => r = (dk_shift D x y z n).1 ∧ tr_d s' (dk_shift D x y z n).2) := by
  generalize hQ : (fun (r : Int32) (s' : tw_S) => r = (dk_shift D x y z n).1 ∧ tr_d s' (dk_shift D x y z n).2) = Q
  refine wq_C.of pn_X3 (Nat.le_of_ble_eq_true rfl) rfl (vX3_shift_0 ok (tw_cv.eq (by decide) (t_good ok) ?_))
  have no1 : ∀ t, dk_shift D x y z n = (0, dk_t D t) → tw_ci G l o ad h 4 mX3_isNot [.ref o, .int t] (tw_g s) (fun y s' => (y = 0 ∨ y = 1) ∧ Q y s') := by
    intro t e
    refine t_deny ok hD t (by decide) (fun s' hs' => ⟨Or.inl rfl, ?_⟩)
    subst hQ
    rw [e]; exact ⟨rfl, hs'⟩
  cases hK : D.2.2.2.2.2 with
  | none =>
    have hb : (tw_g s).1 14 = b2i false := (tw_g_14 s).trans (hD.n hK).1
    refine tw_ci.eq (by decide) (t_isOutcome (L := 0) (N := 0) (T := []) ok x y false hb (fun q => absurd q (by decide))) ?_
    exact ⟨fun _ => no1 1 (by unfold dk_shift; rw [hK]), fun c => absurd rfl c⟩
  | some K =>
    have hk := hD.k hK
    have hok := dk.2.2 K hK
    have hb : (tw_g s).1 14 = b2i true := (tw_g_14 s).trans hk.1
    have hq : tr_q (tw_g s) K.1 K.2.1 K.2.2.2.1 := hk.2.1
    have h8 := tr_8 hq
    have hN := hok.2.2.2.1
    have hdk : dk_shift D x y z n = (if zs_isO K.2.2.2.1 x y && (zs_isO K.2.2.2.1 x z && decide (y ≠ z)) then (if decide ((1 : Int32) ≤ n ∧ n ≤ 60) then (if n ≤ nI ((zs_at K.2.2.2.1 x.toNatClampNeg).2.2.1 y.toNatClampNeg) then (1, dk_act D K (K.2.2.2.1.set x.toNatClampNeg (zs_shf (zs_at K.2.2.2.1 x.toNatClampNeg) y.toNatClampNeg z.toNatClampNeg n.toNatClampNeg)) (mkA 3 x y z n)) else (0, dk_t D 5)) else (0, dk_t D 2)) else (0, dk_t D 1)) := by
      unfold dk_shift; rw [hK]
    refine tw_ci.eq (by decide) (t_isOutcome ok x y true hb (fun _ => hq)) ?_
    rw [Bool.true_and, b2i_0]
    refine ⟨fun c => no1 1 (by rw [hdk, c]; rfl), fun c => tw_ci.eq (by decide) (t_isOutcome ok x z true hb (fun _ => hq)) ?_⟩
    simp only [Bool.not_eq_false] at c
    rw [Bool.true_and, b2i_0]
    refine ⟨fun c2 => no1 1 (by rw [hdk, c, c2]; rfl), fun c2 => ⟨fun c3 => tw_ci.eq (by decide) (t_within ok 0 n 1 60) ?_, fun c3 => no1 1 (by rw [hdk, c]; simp [c3])⟩⟩
    simp only [Bool.not_eq_false] at c2
    rw [c, c2, Bool.true_and, Bool.true_and, if_pos (by simpa using c3)] at hdk
    rw [b2i_0]
    refine ⟨fun c4 => ?_, fun c4 => no1 2 (by rw [hdk, c4]; rfl)⟩
    simp only [Bool.not_eq_false] at c4
    rw [c4, if_pos rfl] at hdk
    simp only [decide_eq_true_eq] at c4
    obtain ⟨k, p, hkT, hp, rfl, rfl⟩ := zs_isO_of h8 c
    have c2 : inB z (zs_out (zs_at K.2.2.2.1 k)) = true := by
      unfold zs_isO at c2
      rw [nI_clamp (by omega), Bool.and_eq_true] at c2
      exact c2.2
    obtain ⟨r, hr, rfl⟩ := inB_of c2
    have h4 := zs_out_le (zs_at K.2.2.2.1 k)
    obtain ⟨m, hm1, hm2, rfl⟩ : ∃ m, 1 ≤ m ∧ m ≤ 60 ∧ n = nI m := by
      have e1 : (1 : Int32).toInt ≤ n.toInt := Int32.le_iff_toInt_le.mp c4.1
      have e2 : n.toInt ≤ (60 : Int32).toInt := Int32.le_iff_toInt_le.mp c4.2
      rw [show (1 : Int32).toInt = 1 from rfl] at e1
      rw [show (60 : Int32).toInt = 60 from rfl] at e2
      refine ⟨n.toInt.toNat, by omega, by omega, ?_⟩
      rw [nI_iI, show ((n.toInt.toNat : Nat) : Int) = n.toInt by omega, iI_self]
    have hpr : p ≠ r := fun q => c3 (by rw [q])
    rw [nI_clamp (by omega), nI_clamp (by omega), nI_clamp (by omega), nI_clamp (by omega)] at hdk
    have a1 := tr_at hq hkT
    have htm := ok_tm hok.1 hkT hp
    have htr := ok_tm hok.1 hkT hr
    have i17 : ∀ p : Nat, (17 : Int32) + 4 * nI k + nI p = nI (17 + 4 * k + p) := fun p => by rw [nI_lit 17, nI_lit 4, nI_mul, nI_add, nI_add]
    refine tw_ld_n _ (i17 p) (by show _ < 346; omega) ?_
    rw [a1.2.2.1 p hp]
    refine ⟨fun c5 => tw_cv.eq (by decide) (t_was ok) (tw_ld_n _ (i17 p) (by show _ < 346; omega) (tw_st_n _ (i17 p) (by show _ < 346; omega) (tw_ld_n _ (i17 r) (by show _ < 346; omega) (tw_st_n _ (i17 r) (by show _ < 346; omega) ?_)))), fun c5 => no1 5 (by rw [hdk, if_neg c5])⟩
    rw [if_pos c5] at hdk
    rw [nI_leI (by omega) (by omega)] at c5
    have hq0 := was_q hk.2.1
    have b1 := tr_at hq0 hkT
    rw [b1.2.2.1 p hp, pa_ne (by omega), b1.2.2.1 r hr, nI_add]
    have esub : nI ((zs_at K.2.2.2.1 k).2.2.1 p) - nI m = nI ((zs_at K.2.2.2.1 k).2.2.1 p - m) := by
      rw [nI_iI, nI_iI, nI_iI, iI_sub]; congr 1; omega
    rw [esub]
    have hlt : k < K.2.2.2.1.length := hkT
    refine t_fin2 (s2 := tw_pa (tw_pa (tw_was s) 15 (17 + 4 * k + p) (nI ((zs_at K.2.2.2.1 k).2.2.1 p - m))) 15 (17 + 4 * k + r) (nI ((zs_at K.2.2.2.1 k).2.2.1 r + m))) (dd := 4) (Q := fun y s' => (y = 0 ∨ y = 1) ∧ Q y s') (T := K.2.2.2.1.set k (zs_shf (zs_at K.2.2.2.1 k) p r m)) ok hD hK dk ⟨rfl, fun a h1 h2 => ?_, fun i hi => ?_, ?_, ?_⟩ (set_ok hok.1 (shf_ok (ok_get hok.1 hkT) hp hr hpr c5)) 3 (nI k) (nI p) (nI r) (nI m) (by decide) (fun s' hs' => ⟨Or.inr rfl, ?_⟩)
    · rw [pa_no h1, pa_no h1]
    · rw [pa_ne (by omega), pa_ne (by omega)]
    · refine ta_put (T := K.2.2.2.1) (k := k) (by rw [List.length_set]) hq0.1 (by rw [pa_ne (by omega), pa_ne (by omega)]) (fun e he => ?_) (fun j hj => ⟨?_, fun hjl => ?_⟩)
      · rw [List.getElem?_set_self hlt, Option.some.injEq] at he
        subst he
        refine ⟨by rw [pa_ne (by omega), pa_ne (by omega)]; exact b1.1, by rw [pa_ne (by omega), pa_ne (by omega)]; exact b1.2.1, fun w hw => ?_⟩
        have hw : w < zs_out (zs_at K.2.2.2.1 k) := hw
        show _ = nI (if w = p then _ else if w = r then _ else _)
        by_cases e1 : w = r
        · subst e1
          rw [pa_eq, if_neg (by omega), if_pos rfl]
        · rw [pa_ne (by omega)]
          by_cases e2 : w = p
          · subst e2
            rw [pa_eq, if_pos rfl]
          · rw [pa_ne (by omega), if_neg e2, if_neg e1]
            exact b1.2.2.1 w hw
      · rw [List.getElem?_set_ne (by omega)]
      · exact ⟨by rw [pa_ne (by omega), pa_ne (by omega)], by rw [pa_ne (by omega), pa_ne (by omega)], fun w hw => by rw [pa_ne (by omega), pa_ne (by omega)]⟩
    · refine tc_put (T := K.2.2.2.1) (k := k) hq0.2.1 (fun e he w hw => ?_) (fun j hj => ⟨?_, fun _ p hp => ?_⟩)
      · rw [List.getElem?_set_self hlt, Option.some.injEq] at he
        subst he
        rw [pa_no (by decide), pa_no (by decide)]
        exact b1.2.2.2 w hw
      · rw [List.getElem?_set_ne (by omega)]
      · rw [pa_no (by decide), pa_no (by decide)]
    · subst hQ
      rw [hdk]
      exact ⟨rfl, hs'⟩
theorem t_stake (ok : tw_ok G o ad) (x y c : Int32) (hD : tr_d s D) (dk : dok D) : wq_C G l 3 0 0 mX3_stake [.ref o, .int x, .int y, .int c] (tw_h G o ad s h) (tw_qi G o ad h fun r s' => r = (dk_stake D x y c).1 ∧ tr_d s' (dk_stake D x y c).2) := by
  generalize hQ : (fun (r : Int32) (s' : tw_S) => r = (dk_stake D x y c).1 ∧ tr_d s' (dk_stake D x y c).2) = Q
  refine wq_C.of pn_X3 (Nat.le_of_ble_eq_true rfl) rfl (vX3_stake_0 ok (tw_cv.eq (by decide) (t_good ok) ?_))
  have no1 : ∀ t, dk_stake D x y c = (0, dk_t D t) → tw_ci G l o ad h 3 mX3_isNot [.ref o, .int t] (tw_g s) (fun y s' => (y = 0 ∨ y = 1) ∧ Q y s') := by
    intro t e
    refine t_deny ok hD t (by decide) (fun s' hs' => ⟨Or.inl rfl, ?_⟩)
    subst hQ
    rw [e]; exact ⟨rfl, hs'⟩
  cases hK : D.2.2.2.2.2 with
  | none =>
    have hb : (tw_g s).1 14 = b2i false := (tw_g_14 s).trans (hD.n hK).1
    refine tw_ci.eq (by decide) (t_isOutcome (L := 0) (N := 0) (T := []) ok x y false hb (fun q => absurd q (by decide))) ?_
    exact ⟨fun c => absurd rfl c, fun _ => no1 1 (by unfold dk_stake; rw [hK])⟩
  | some K =>
    have hk := hD.k hK
    have hok := dk.2.2 K hK
    have hb : (tw_g s).1 14 = b2i true := (tw_g_14 s).trans hk.1
    have hq : tr_q (tw_g s) K.1 K.2.1 K.2.2.2.1 := hk.2.1
    have h8 := tr_8 hq
    have hdk : dk_stake D x y c = (if zs_isO K.2.2.2.1 x y then (if inB c 100 then (1, dk_k D (K.1, K.2.1, K.2.2.1, K.2.2.2.1.set x.toNatClampNeg (zs_stk (zs_at K.2.2.2.1 x.toNatClampNeg) y.toNatClampNeg c.toNatClampNeg), K.2.2.2.2)) else (0, dk_t D 2)) else (0, dk_t D 1)) := by
      unfold dk_stake; rw [hK]
    refine tw_ci.eq (by decide) (t_isOutcome ok x y true hb (fun _ => hq)) ?_
    rw [Bool.true_and, b2i_0]
    refine ⟨fun c1 => tw_ci.eq (by decide) (t_within ok 0 c 0 99) ?_, fun c1 => no1 1 (by rw [hdk, c1]; rfl)⟩
    simp only [Bool.not_eq_false] at c1
    rw [c1, if_pos rfl] at hdk
    rw [show (99 : Int32) = nI 100 - 1 from rfl, in_range (by omega), b2i_0]
    refine ⟨fun c2 => ?_, fun c2 => no1 2 (by rw [hdk, c2]; rfl)⟩
    simp only [Bool.not_eq_false] at c2
    rw [c2, if_pos rfl] at hdk
    obtain ⟨k, p, hkT, hp, rfl, rfl⟩ := zs_isO_of h8 c1
    obtain ⟨v, hv, rfl⟩ := inB_of c2
    have h4 := zs_out_le (zs_at K.2.2.2.1 k)
    rw [nI_clamp (by omega), nI_clamp (by omega), nI_clamp (by omega)] at hdk
    have a1 := tr_at hq hkT
    have i4 : (4 : Int32) * nI k + nI p = nI (4 * k + p) := by rw [nI_lit 4, nI_mul, nI_add]
    refine tw_st_n _ i4 (by show _ < 32; omega) ?_
    subst hQ
    rw [hdk]
    have he : e_ok K.1 K.2.1 (zs_stk (zs_at K.2.2.2.1 k) p v) := by
      obtain ⟨g1, g2, g3, g4⟩ := ok_get hok.1 hkT
      refine ⟨g1, g2, g3, fun w hw => ?_⟩
      show (if w = p then v else _) ≤ 99
      split
      · omega
      · exact g4 w hw
    refine ⟨rfl, hD.1.of (pa_no (by decide)) rfl rfl rfl, rfl, ?_⟩
    refine ⟨hk.1, ⟨?_, ?_, set_ok hok.1 he, hk.2.1.2.2.2⟩, hk.2.2.1, hk.2.2.2⟩
    · show ta_tab ((tw_pa (tw_g s) 17 (4 * k + p) (nI v)).2.1 15) _
      rw [pa_no (by decide)]
      refine ta_put (T := K.2.2.2.1) (k := k) (by rw [List.length_set]) hq.1 rfl (fun e he => ?_) (fun j hj => ⟨?_, fun hjl => ⟨rfl, rfl, fun _ _ => rfl⟩⟩)
      · rw [List.getElem?_set_self hkT, Option.some.injEq] at he
        subst he
        exact ⟨a1.1, a1.2.1, fun w hw => a1.2.2.1 w hw⟩
      · rw [List.getElem?_set_ne (by omega)]
    · refine tc_put (T := K.2.2.2.1) (k := k) hq.2.1 (fun e he w hw => ?_) (fun j hj => ⟨?_, fun _ p hp => ?_⟩)
      · rw [List.getElem?_set_self hkT, Option.some.injEq] at he
        subst he
        have hw : w < zs_out (zs_at K.2.2.2.1 k) := hw
        show _ = nI (if w = p then v else _)
        by_cases e1 : w = p
        · subst e1
          rw [pa_eq, if_pos rfl]
        · rw [pa_ne (by omega), if_neg e1]
          exact a1.2.2.2 w hw
      · rw [List.getElem?_set_ne (by omega)]
      · rw [pa_ne (by omega)]
/-- a table brought back from a row of tables -/
theorem tr_back {s1 s2 : tw_S} {L N : Nat} {T : zs_T} (hq : tr_q s L N T) {T' : zs_T} (hok : zs_ok L N T') {f : Nat → Int32} {a : Nat} (hf : ta_tab (fun j => f (a + j)) T') (h15 : s2.2.1 15 = cpf (s.2.1 15) f a 0 49) (h17 : ∀ k, k < 32 → s2.2.1 17 k = 0) : tr_q s2 L N (zs_nc T') := by
  refine ⟨nc_tab (ta_cong hok.1 (fun j hj => ?_) hf), nc_coin hok.1 h17, nc_ok hok, ?_, ?_, hq.2.2.2.2.2⟩
  · rw [h15]
    simp only [cpf]
    rw [if_pos (by omega), Nat.sub_zero]
  · rw [h15]
    simp only [cpf]
    rw [if_neg (by omega)]
    exact hq.2.2.2.1
  · rw [h15]
    simp only [cpf]
    rw [if_neg (by omega)]
    exact hq.2.2.2.2.1
theorem t_mark (ok : tw_ok G o ad) (hD : tr_d s D) (dk : dok D) : wq_C G l 1 0 0 mX3_mark [.ref o] (tw_h G o ad s h) (tw_qi G o ad h fun r s' => r = (dk_mark D).1 ∧ tr_d s' (dk_mark D).2) := by
  generalize hQ : (fun (r : Int32) (s' : tw_S) => r = (dk_mark D).1 ∧ tr_d s' (dk_mark D).2) = Q
  refine wq_C.of pn_X3 (Nat.le_of_ble_eq_true rfl) rfl (vX3_mark_0 ok (tw_cv.eq (by decide) (t_good ok) ?_))
  have no1 : ∀ t, dk_mark D = (-1, dk_t D t) → tw_ci G l o ad h 1 mX3_no [.ref o, .int t] (tw_g s) (fun y s' => Q y s') := by
    intro t e
    refine tw_ci.is (by decide) (t_no ok t) ?_
    subst hQ
    rw [e]
    exact hD.ask tw_e_no
  rw [tw_g_14]
  cases hK : D.2.2.2.2.2 with
  | none =>
    rw [(hD.n hK).1]
    exact ⟨fun c => absurd rfl c, fun _ => no1 1 (by unfold dk_mark; rw [hK])⟩
  | some K =>
    have hk := hD.k hK
    have hok := dk.2.2 K hK
    have hm4 := hok.2.2.2.2.2.2.2.2
    rw [hk.1]
    refine ⟨fun _ => ?_, fun c => absurd c (by decide)⟩
    have e26 : (tw_g s).1 26 = nI K.2.2.2.2.2.2.length := hk.2.2.2.2.2.2.2.1
    have e4 : nI K.2.2.2.2.2.2.length = 4 ↔ K.2.2.2.2.2.2.length = 4 := nI_eq (b := 4) (by omega) (by omega)
    rw [e26, e4]
    have hdk : dk_mark D = (if K.2.2.2.2.2.2.length = 4 then (-1, dk_t D 3) else (nI K.2.2.2.2.2.2.length, dk_k D (K.1, K.2.1, K.2.2.1, K.2.2.2.1, K.2.2.2.2.1, K.2.2.2.2.2.1, K.2.2.2.2.2.2 ++ [zs_nc K.2.2.2.1]))) := by
      unfold dk_mark; rw [hK]
    refine ⟨fun c => ?_, fun c => no1 3 (by rw [hdk, if_pos c])⟩
    rw [if_neg c] at hdk
    rw [nI_lit 49, nI_mul]
    refine tw_cv.eq (by decide) (t_copy (a := 0) (b := 49 * K.2.2.2.2.2.2.length) (m := 49) ok mia15 (by decide) (by decide) (by decide) (by show _ ≤ 196; omega)) ?_
    have e26' : (tw_sa (tw_g s) 21 (cpf ((tw_g s).2.1 21) ((tw_g s).2.1 15) 0 (49 * K.2.2.2.2.2.2.length) 49)).1 26 = nI K.2.2.2.2.2.2.length := e26
    unfold tw_pt
    dsimp only
    rw [pi_eq, e26', nI_1, nI_pred]
    subst hQ
    rw [hdk]
    refine ⟨rfl, hD.1.of rfl rfl rfl rfl, rfl, hk.1, hk.2.1, hk.2.2.1, hk.2.2.2.1, hk.2.2.2.2.1, hk.2.2.2.2.2.1, hk.2.2.2.2.2.2.1, ?_, ?_⟩
    · show nI (K.2.2.2.2.2.2.length + 1) = _
      rw [List.length_append]; rfl
    · intro i x hx
      show x.length ≤ 8 ∧ ta_tab (fun j => cpf (s.2.1 21) (s.2.1 15) 0 (49 * K.2.2.2.2.2.2.length) 49 (49 * i + j)) x
      have hx : (K.2.2.2.2.2.2 ++ [zs_nc K.2.2.2.1])[i]? = some x := hx
      by_cases ci : i < K.2.2.2.2.2.2.length
      · rw [List.getElem?_append_left ci] at hx
        obtain ⟨g1, g2⟩ := hk.2.2.2.2.2.2.2.2 i x hx
        refine ⟨g1, ta_cong g1 (fun j hj => ?_) g2⟩
        simp only [cpf]
        rw [if_neg (by omega)]
      · have hl := (List.getElem?_eq_some_iff.mp hx).1
        simp at hl
        obtain rfl : i = K.2.2.2.2.2.2.length := by omega
        simp at hx
        subst hx
        refine ⟨by rw [nc_len]; exact hok.1.1, nc_tab (ta_cong hok.1.1 (fun j hj => ?_) hk.2.1.1)⟩
        simp only [cpf]
        rw [if_pos (by omega), Nat.add_sub_cancel_left, Nat.zero_add]
theorem t_back (ok : tw_ok G o ad) (x : Int32) (hD : tr_d s D) (dk : dok D) : wq_C G l 1 0 0 mX3_back [.ref o, .int x] (tw_h G o ad s h) (tw_qi G o ad h fun r s' => r = (dk_back D x).1 ∧ tr_d s' (dk_back D x).2) := by
  generalize hQ : (fun (r : Int32) (s' : tw_S) => r = (dk_back D x).1 ∧ tr_d s' (dk_back D x).2) = Q
  refine wq_C.of pn_X3 (Nat.le_of_ble_eq_true rfl) rfl (vX3_back_0 ok (tw_cv.eq (by decide) (t_good ok) ?_))
  have no1 : ∀ t, dk_back D x = (0, dk_t D t) → tw_ci G l o ad h 1 mX3_isNot [.ref o, .int t] (tw_g s) (fun y s' => (y = 0 ∨ y = 1) ∧ Q y s') := by
    intro t e
    refine t_deny ok hD t (by decide) (fun s' hs' => ⟨Or.inl rfl, ?_⟩)
    subst hQ
    rw [e]; exact ⟨rfl, hs'⟩
  cases hK : D.2.2.2.2.2 with
  | none =>
    have e26 : (tw_g s).1 26 = nI 0 := (hD.n hK).2.2.2
    rw [e26]
    refine tw_ci.eq (by decide) (t_within ok 0 x 0 (nI 0 - 1)) ?_
    rw [in_range (by omega), b2i_0]
    have hz : inB x 0 = false := by unfold inB; rw [decide_eq_false_iff_not]; omega
    rw [hz]
    exact ⟨fun c => absurd rfl c, fun _ => no1 1 (by unfold dk_back; rw [hK])⟩
  | some K =>
    have hk := hD.k hK
    have hok := dk.2.2 K hK
    have hm4 := hok.2.2.2.2.2.2.2.2
    have e26 : (tw_g s).1 26 = nI K.2.2.2.2.2.2.length := hk.2.2.2.2.2.2.2.1
    rw [e26]
    refine tw_ci.eq (by decide) (t_within ok 0 x 0 (nI K.2.2.2.2.2.2.length - 1)) ?_
    rw [in_range (by omega), b2i_0]
    have hdk : dk_back D x = (if inB x K.2.2.2.2.2.2.length then (1, dk_k D (K.1, K.2.1, K.2.2.1, zs_nc ((K.2.2.2.2.2.2[x.toNatClampNeg]?).getD []), [], [], K.2.2.2.2.2.2)) else (0, dk_t D 1)) := by
      unfold dk_back; rw [hK]
    refine ⟨fun c => ?_, fun c => no1 1 (by rw [hdk, c]; rfl)⟩
    simp only [Bool.not_eq_false] at c
    rw [c, if_pos rfl] at hdk
    obtain ⟨i, hi, rfl⟩ := inB_of c
    rw [nI_clamp (by omega)] at hdk
    rw [nI_lit 49, nI_mul]
    refine tw_cv.eq (by decide) (t_copy (a := 49 * i) (b := 0) (m := 49) ok (by decide) mia15 (by decide) (by show _ ≤ 196; omega) (by decide)) ?_
    unfold tw_pt
    refine tw_cv.eq (by decide) (t_noCoins ok) ?_
    subst hQ
    rw [hdk]
    have hx : K.2.2.2.2.2.2[i]? = some ((K.2.2.2.2.2.2[i]?).getD []) := by rw [List.getElem?_eq_getElem hi]; rfl
    have g := hk.2.2.2.2.2.2.2.2 i _ hx
    have hokx := hok.2.2.2.2.2.2.1 _ (List.mem_of_getElem? hx)
    refine ⟨rfl, hD.1.of rfl rfl rfl rfl, rfl, hk.1, tr_back (s1 := s) hk.2.1 hokx g.2 rfl (fun k hk => ?_), hk.2.2.1.of (fun j hj => ?_), rfl, fun i x hx => by simp at hx, rfl, fun i x hx => by simp at hx, hk.2.2.2.2.2.2.2⟩
    · show (if k < 32 then 0 else _) = 0
      rw [if_pos hk]
    · show cpf (s.2.1 15) (s.2.1 21) (49 * i) 0 49 j = _
      simp only [cpf]
      rw [if_neg (by omega)]
theorem t_act (ok : tw_ok G o ad) (x y : Int32) (hD : tr_d s D) (dk : dok D) : wq_C G l 1 0 0 mX3_act [.ref o, .int x, .int y] (tw_h G o ad s h) (tw_qi G o ad h fun r s' => r = (dk_actq D x y).1 ∧ tr_d s' (dk_actq D x y).2) := by
  generalize hQ : (fun (r : Int32) (s' : tw_S) => r = (dk_actq D x y).1 ∧ tr_d s' (dk_actq D x y).2) = Q
  refine wq_C.of pn_X3 (Nat.le_of_ble_eq_true rfl) rfl (vX3_act_0 ok (tw_cv.eq (by decide) (t_good ok) ?_))
  have no1 : ∀ t, dk_actq D x y = (-1, dk_t D t) → tw_ci G l o ad h 1 mX3_no [.ref o, .int t] (tw_g s) (fun y s' => Q y s') := by
    intro t e
    refine tw_ci.is (by decide) (t_no ok t) ?_
    subst hQ
    rw [e]
    exact hD.ask tw_e_no
  rw [tw_g_14]
  cases hK : D.2.2.2.2.2 with
  | none =>
    rw [(hD.n hK).1]
    exact ⟨fun _ => no1 1 (by unfold dk_actq; rw [hK]), fun c => absurd rfl c⟩
  | some K =>
    have hk := hD.k hK
    have hok := dk.2.2 K hK
    have h20 := hok.2.2.2.2.2.2.2.1
    rw [hk.1]
    have e24 : (tw_g s).1 24 = nI K.2.2.2.2.1.length := hk.2.2.2.1
    rw [e24]
    have hdk : dk_actq D x y = (if inB x K.2.2.2.2.1.length && inB y 5 then ((((K.2.2.2.2.1[x.toNatClampNeg]?).map (fun q => q.1 y.toNatClampNeg)).getD 0), dk_t D 0) else (-1, dk_t D 1)) := by
      unfold dk_actq; rw [hK]
    refine ⟨fun c => absurd c (by decide), fun _ => tw_ci.eq (by decide) (t_within ok 0 x 0 (nI K.2.2.2.2.1.length - 1)) ?_⟩
    rw [in_range (by omega), b2i_0]
    refine ⟨fun c => no1 1 (by rw [hdk, c]; rfl), fun c => tw_ci.eq (by decide) (t_within ok 0 y 0 4) ?_⟩
    simp only [Bool.not_eq_false] at c
    rw [show (4 : Int32) = nI 5 - 1 from rfl, in_range (by omega), b2i_0]
    refine ⟨fun c2 => no1 1 (by rw [hdk, c, c2]; rfl), fun c2 => ?_⟩
    simp only [Bool.not_eq_false] at c2
    rw [c, c2, Bool.true_and, if_pos rfl] at hdk
    obtain ⟨i, hi, rfl⟩ := inB_of c
    obtain ⟨j, hj, rfl⟩ := inB_of c2
    rw [nI_clamp (by omega), nI_clamp (by omega), List.getElem?_eq_getElem hi] at hdk
    refine tw_ld_n (5 * i + j) (by rw [nI_lit 5, nI_mul, nI_add]) (by show _ < 100; omega) ?_
    have g := hk.2.2.2.2.1 i _ (List.getElem?_eq_getElem hi)
    subst hQ
    rw [hdk]
    show (tw_g s).2.1 22 (5 * i + j) = _ ∧ _
    rw [show (tw_g s).2.1 22 (5 * i + j) = _ from g.2.2 j hj]
    exact ⟨rfl, (hD.ask (v := 0) tw_e_g).2⟩
end TW24
