/-! CONTRACTS of the reference: undo, redo -/
set_option maxRecDepth 100000
section TW25
variable {G : wq_G} {l : Launch} {o : Nat} {ad : Nat → Nat} {h : wq_H} {s : tw_S} {D : zs_D}
theorem t_undo (ok : tw_ok G o ad) (hD : tr_d s D) (dk : dok D) : wq_C G l 2 0 0 mX3_undo [.ref o] (tw_h G o ad s h) (tw_qi G o ad h fun r s' => r = (dk_undo D).1 ∧ tr_d s' (dk_undo D).2) := by
  generalize hQ : (fun (r : Int32) (s' : tw_S) => r = (dk_undo D).1 ∧ tr_d s' (dk_undo D).2) = Q
  refine wq_C.of pn_X3 (Nat.le_of_ble_eq_true rfl) rfl (vX3_undo_0 ok (tw_cv.eq (by decide) (t_good ok) ?_))
  have no1 : dk_undo D = (0, dk_t D 6) → tw_ci G l o ad h 2 mX3_isNot [.ref o, .int 6] (tw_g s) (fun y s' => (y = 0 ∨ y = 1) ∧ Q y s') := by
    intro e
    refine t_deny ok hD 6 (by decide) (fun s' hs' => ⟨Or.inl rfl, ?_⟩)
    subst hQ
    rw [e]; exact ⟨rfl, hs'⟩
  cases hK : D.2.2.2.2.2 with
  | none =>
    have e24 : (tw_g s).1 24 = 0 := (hD.n hK).2.1
    rw [e24]
    exact ⟨fun c => absurd rfl c, fun _ => no1 (by unfold dk_undo; rw [hK])⟩
  | some K =>
    have hk := hD.k hK
    have hok := dk.2.2 K hK
    have h20 := hok.2.2.2.2.2.2.2.1
    have hdk : dk_undo D = (match K.2.2.2.2.1.getLast? with
    | none => (0, dk_t D 6)
    | some x => (1, dk_k D (K.1, K.2.1, K.2.2.1, zs_nc x.2, K.2.2.2.2.1.dropLast, K.2.2.2.2.2.1 ++ [(x.1, K.2.2.2.1)], K.2.2.2.2.2.2))) := by
      unfold dk_undo; rw [hK]; rfl
    have e24 : (tw_g s).1 24 = nI K.2.2.2.2.1.length := hk.2.2.2.1
    have e0 : nI K.2.2.2.2.1.length = 0 ↔ K.2.2.2.2.1.length = 0 := nI_eq (b := 0) (by omega) (by omega)
    rw [e24, e0]
    refine ⟨fun c => ?_, fun c => no1 (by rw [hdk, List.length_eq_zero_iff.mp c]; rfl)⟩
    obtain ⟨x, hx⟩ : ∃ x, K.2.2.2.2.1.getLast? = some x := by
      cases q : K.2.2.2.2.1.getLast? with
      | none => rw [List.getLast?_eq_none_iff] at q; rw [q] at c; exact absurd rfl c
      | some x => exact ⟨x, rfl⟩
    rw [hx] at hdk
    simp only at hdk
    have hx2 : K.2.2.2.2.1[K.2.2.2.2.1.length - 1]? = some x := by rw [← List.getLast?_eq_getElem?]; exact hx
    generalize hn : K.2.2.2.2.1.length = n at *
    have hokx := hok.2.2.2.2.1 x (List.mem_of_getElem? hx2)
    have gx := hk.2.2.2.2.1 (n - 1) x hx2
    have hq := hk.2.1
    unfold tw_pt
    rw [nI_sub1 (by omega)]
    refine tw_cv.eq (by decide) (t_copy (a := 0) (b := 0) (m := 49) ok mia15 (by decide) (by decide) (by decide) (by decide)) ?_
    have f24 : (tw_sa (tw_pi (tw_g s) 24 (nI (n - 1))) 18 (cpf ((tw_pi (tw_g s) 24 (nI (n - 1))).2.1 18) ((tw_pi (tw_g s) 24 (nI (n - 1))).2.1 15) 0 0 49)).1 24 = nI (n - 1) := rfl
    generalize hs3 : tw_sa (tw_pi (tw_g s) 24 (nI (n - 1))) 18 (cpf ((tw_pi (tw_g s) 24 (nI (n - 1))).2.1 18) ((tw_pi (tw_g s) 24 (nI (n - 1))).2.1 15) 0 0 49) = s3 at *
    have z1 : ∀ k, k ≠ 0 → k ≠ 11 → k ≠ 24 → s3.1 k = s.1 k := by
      intro k h0 h11 h24; subst hs3
      show (tw_pi (tw_g s) 24 (nI (n - 1))).1 k = _
      rw [pi_ne h24, pi_ne h11, pi_ne h0]
    have z11 : s3.1 11 = 0 := by subst hs3; rfl
    have z2 : ∀ k, k ≠ 18 → s3.2.1 k = s.2.1 k := by intro k hk; subst hs3; exact sa_ne hk
    have z18 : ta_tab (s3.2.1 18) K.2.2.2.1 := by
      refine ta_cong hq.2.2.1.1 (fun j hj => ?_) hq.1
      subst hs3
      rw [sa_eq]
      simp only [cpf]
      rw [if_pos (by omega)]
      show s.2.1 15 j = s.2.1 15 (0 + (j - 0))
      rw [Nat.zero_add, Nat.sub_zero]
    have j5 : ∀ p : Nat, (5 : Int32) * nI (n - 1) + nI p = nI (5 * (n - 1) + p) := fun p => by rw [nI_lit 5, nI_mul, nI_add]
    have j50 : (5 : Int32) * nI (n - 1) = nI (5 * (n - 1) + 0) := by rw [nI_lit 5, nI_mul]; rfl
    rw [f24]
    refine tw_ld_n _ j50 (by show _ < 100; omega) (tw_ld_n _ (j5 1) (by show _ < 100; omega) (tw_ld_n _ (j5 2) (by show _ < 100; omega) (tw_ld_n _ (j5 3) (by show _ < 100; omega) (tw_ld_n _ (j5 4) (by show _ < 100; omega) ?_))))
    rw [z2 22 (by decide), gx.2.2 0 (by omega), gx.2.2 1 (by omega), gx.2.2 2 (by omega), gx.2.2 3 (by omega), gx.2.2 4 (by omega)]
    have f25 : s3.1 25 = nI K.2.2.2.2.2.1.length := (z1 25 (by decide) (by decide) (by decide)).trans hk.2.2.2.2.2.1
    rw [f25]
    have hf19 : K.2.2.2.2.2.1.length < 20 := by omega
    refine tw_cv.use (by decide) (t_keep (s := s3) ok (Or.inr ⟨rfl, rfl⟩) (x.1, K.2.2.2.1) (q := K.2.2.2.2.2.1) (by omega) (by rw [z2 20 (by decide), z2 23 (by decide)]; exact hk.2.2.2.2.2.2.1) hq.2.2.1.1 z18) ?_
    rintro s9 ⟨F, A, rfl, hF⟩
    have hpush : pushA K.2.2.2.2.2.1 (x.1, K.2.2.2.1) = K.2.2.2.2.2.1 ++ [(x.1, K.2.2.2.1)] := by unfold pushA; rw [if_neg (by omega)]
    rw [hpush] at hF
    have f25' : (tw_sa (tw_sa s3 20 F) 23 A).1 25 = nI K.2.2.2.2.2.1.length := f25
    have e20 : nI K.2.2.2.2.2.1.length = 20 ↔ K.2.2.2.2.2.1.length = 20 := nI_eq (b := 20) (by omega) (by omega)
    rw [f25', e20]
    refine ⟨fun _ => ?_, fun c => absurd c (by omega)⟩
    dsimp only
    have f24' : (tw_pi (tw_sa (tw_sa s3 20 F) 23 A) 25 (nI K.2.2.2.2.2.1.length + 1)).1 24 = nI (n - 1) := f24
    rw [f24', nI_lit 49, nI_mul]
    refine tw_cv.eq (by decide) (t_copy (a := 49 * (n - 1)) (b := 0) (m := 49) ok (by decide) mia15 (by decide) (by show _ ≤ 980; omega) (by decide)) (tw_cv.eq (by decide) (t_noCoins ok) ?_)
    subst hQ
    rw [hdk]
    have y2 : ∀ k, k ≠ 15 → k ≠ 17 → k ≠ 18 → k ≠ 20 → k ≠ 23 → (tw_sa (tw_sa (tw_pi (tw_sa (tw_sa s3 20 F) 23 A) 25 (nI K.2.2.2.2.2.1.length + 1)) 15 (cpf ((tw_pi (tw_sa (tw_sa s3 20 F) 23 A) 25 (nI K.2.2.2.2.2.1.length + 1)).2.1 15) ((tw_pi (tw_sa (tw_sa s3 20 F) 23 A) 25 (nI K.2.2.2.2.2.1.length + 1)).2.1 19) (49 * (n - 1)) 0 49)) 17 (fun k => if k < 32 then 0 else (tw_sa (tw_pi (tw_sa (tw_sa s3 20 F) 23 A) 25 (nI K.2.2.2.2.2.1.length + 1)) 15 (cpf ((tw_pi (tw_sa (tw_sa s3 20 F) 23 A) 25 (nI K.2.2.2.2.2.1.length + 1)).2.1 15) ((tw_pi (tw_sa (tw_sa s3 20 F) 23 A) 25 (nI K.2.2.2.2.2.1.length + 1)).2.1 19) (49 * (n - 1)) 0 49)).2.1 17 k)).2.1 k = s.2.1 k := by
      intro k h15 h17 h18 h20 h23
      rw [sa_ne h17, sa_ne h15]
      show (tw_sa (tw_sa s3 20 F) 23 A).2.1 k = _
      rw [sa_ne h23, sa_ne h20, z2 k h18]
    have e15 : (tw_pi (tw_sa (tw_sa s3 20 F) 23 A) 25 (nI K.2.2.2.2.2.1.length + 1)).2.1 15 = s.2.1 15 := z2 15 (by decide)
    have e19 : (tw_pi (tw_sa (tw_sa s3 20 F) 23 A) 25 (nI K.2.2.2.2.2.1.length + 1)).2.1 19 = s.2.1 19 := z2 19 (by decide)
    refine ⟨rfl, hD.1.of (y2 1 (by decide) (by decide) (by decide) (by decide) (by decide)) (z1 2 (by decide) (by decide) (by decide)) (z1 9 (by decide) (by decide) (by decide)) (z1 10 (by decide) (by decide) (by decide)), z11, (z1 14 (by decide) (by decide) (by decide)).trans hk.1, ?_, ?_, ?_, ?_, ?_, ?_, (z1 26 (by decide) (by decide) (by decide)).trans hk.2.2.2.2.2.2.2.1, ?_⟩
    · refine tr_back (s := s) (s1 := s) (T := K.2.2.2.1) hq hokx gx.2.1 ?_ (fun k hk => ?_)
      · show cpf _ _ _ _ _ = _
        rw [e15, e19]
      · show (if k < 32 then 0 else _) = 0
        rw [if_pos hk]
    · refine hk.2.2.1.of (fun j hj => ?_)
      show cpf _ _ _ _ _ j = _
      rw [e15]
      simp only [cpf]
      rw [if_neg (by omega)]
    · refine f24'.trans ?_
      show nI (n - 1) = nI (K.2.2.2.2.1.dropLast).length
      rw [List.length_dropLast, hn]
    · show hist _ _ _
      rw [y2 19 (by decide) (by decide) (by decide) (by decide) (by decide), y2 22 (by decide) (by decide) (by decide) (by decide) (by decide)]
      intro i y hy
      refine hk.2.2.2.2.1 i y ?_
      have hy : (K.2.2.2.2.1.dropLast)[i]? = some y := hy
      rw [List.getElem?_dropLast] at hy
      split at hy
      · exact hy
      · cases hy
    · show nI K.2.2.2.2.2.1.length + 1 = nI (K.2.2.2.2.2.1 ++ [(x.1, K.2.2.2.1)]).length
      rw [List.length_append, nI_1]; rfl
    · show hist _ _ _
      exact hF
    · show mk_at _ _
      rw [y2 21 (by decide) (by decide) (by decide) (by decide) (by decide)]
      exact hk.2.2.2.2.2.2.2.2
theorem t_redo (ok : tw_ok G o ad) (hD : tr_d s D) (dk : dok D) : wq_C G l 2 0 0 mX3_redo [.ref o] (tw_h G o ad s h) (tw_qi G o ad h fun r s' => r = (dk_redo D).1 ∧ tr_d s' (dk_redo D).2) := by
  generalize hQ : (fun (r : Int32) (s' : tw_S) => r = (dk_redo D).1 ∧ tr_d s' (dk_redo D).2) = Q
  refine wq_C.of pn_X3 (Nat.le_of_ble_eq_true rfl) rfl (vX3_redo_0 ok (tw_cv.eq (by decide) (t_good ok) ?_))
  have no1 : dk_redo D = (0, dk_t D 6) → tw_ci G l o ad h 2 mX3_isNot [.ref o, .int 6] (tw_g s) (fun y s' => (y = 0 ∨ y = 1) ∧ Q y s') := by
    intro e
    refine t_deny ok hD 6 (by decide) (fun s' hs' => ⟨Or.inl rfl, ?_⟩)
    subst hQ
    rw [e]; exact ⟨rfl, hs'⟩
  cases hK : D.2.2.2.2.2 with
  | none =>
    have e24 : (tw_g s).1 25 = 0 := (hD.n hK).2.2.1
    rw [e24]
    exact ⟨fun c => absurd rfl c, fun _ => no1 (by unfold dk_redo; rw [hK])⟩
  | some K =>
    have hk := hD.k hK
    have hok := dk.2.2 K hK
    have h20 := hok.2.2.2.2.2.2.2.1
    have hdk : dk_redo D = (match K.2.2.2.2.2.1.getLast? with
    | none => (0, dk_t D 6)
    | some x => (1, dk_k D (K.1, K.2.1, K.2.2.1, zs_nc x.2, K.2.2.2.2.1 ++ [(x.1, K.2.2.2.1)], K.2.2.2.2.2.1.dropLast, K.2.2.2.2.2.2))) := by
      unfold dk_redo; rw [hK]; rfl
    have e24 : (tw_g s).1 25 = nI K.2.2.2.2.2.1.length := hk.2.2.2.2.2.1
    have e0 : nI K.2.2.2.2.2.1.length = 0 ↔ K.2.2.2.2.2.1.length = 0 := nI_eq (b := 0) (by omega) (by omega)
    rw [e24, e0]
    refine ⟨fun c => ?_, fun c => no1 (by rw [hdk, List.length_eq_zero_iff.mp c]; rfl)⟩
    obtain ⟨x, hx⟩ : ∃ x, K.2.2.2.2.2.1.getLast? = some x := by
      cases q : K.2.2.2.2.2.1.getLast? with
      | none => rw [List.getLast?_eq_none_iff] at q; rw [q] at c; exact absurd rfl c
      | some x => exact ⟨x, rfl⟩
    rw [hx] at hdk
    simp only at hdk
    have hx2 : K.2.2.2.2.2.1[K.2.2.2.2.2.1.length - 1]? = some x := by rw [← List.getLast?_eq_getElem?]; exact hx
    generalize hn : K.2.2.2.2.2.1.length = n at *
    have hokx := hok.2.2.2.2.2.1 x (List.mem_of_getElem? hx2)
    have gx := hk.2.2.2.2.2.2.1 (n - 1) x hx2
    have hq := hk.2.1
    unfold tw_pt
    rw [nI_sub1 (by omega)]
    refine tw_cv.eq (by decide) (t_copy (a := 0) (b := 0) (m := 49) ok mia15 (by decide) (by decide) (by decide) (by decide)) ?_
    have f24 : (tw_sa (tw_pi (tw_g s) 25 (nI (n - 1))) 18 (cpf ((tw_pi (tw_g s) 25 (nI (n - 1))).2.1 18) ((tw_pi (tw_g s) 25 (nI (n - 1))).2.1 15) 0 0 49)).1 25 = nI (n - 1) := rfl
    generalize hs3 : tw_sa (tw_pi (tw_g s) 25 (nI (n - 1))) 18 (cpf ((tw_pi (tw_g s) 25 (nI (n - 1))).2.1 18) ((tw_pi (tw_g s) 25 (nI (n - 1))).2.1 15) 0 0 49) = s3 at *
    have z1 : ∀ k, k ≠ 0 → k ≠ 11 → k ≠ 25 → s3.1 k = s.1 k := by
      intro k h0 h11 h24; subst hs3
      show (tw_pi (tw_g s) 25 (nI (n - 1))).1 k = _
      rw [pi_ne h24, pi_ne h11, pi_ne h0]
    have z11 : s3.1 11 = 0 := by subst hs3; rfl
    have z2 : ∀ k, k ≠ 18 → s3.2.1 k = s.2.1 k := by intro k hk; subst hs3; exact sa_ne hk
    have z18 : ta_tab (s3.2.1 18) K.2.2.2.1 := by
      refine ta_cong hq.2.2.1.1 (fun j hj => ?_) hq.1
      subst hs3
      rw [sa_eq]
      simp only [cpf]
      rw [if_pos (by omega)]
      show s.2.1 15 j = s.2.1 15 (0 + (j - 0))
      rw [Nat.zero_add, Nat.sub_zero]
    have j5 : ∀ p : Nat, (5 : Int32) * nI (n - 1) + nI p = nI (5 * (n - 1) + p) := fun p => by rw [nI_lit 5, nI_mul, nI_add]
    have j50 : (5 : Int32) * nI (n - 1) = nI (5 * (n - 1) + 0) := by rw [nI_lit 5, nI_mul]; rfl
    rw [f24]
    refine tw_ld_n _ j50 (by show _ < 100; omega) (tw_ld_n _ (j5 1) (by show _ < 100; omega) (tw_ld_n _ (j5 2) (by show _ < 100; omega) (tw_ld_n _ (j5 3) (by show _ < 100; omega) (tw_ld_n _ (j5 4) (by show _ < 100; omega) ?_))))
    rw [z2 23 (by decide), gx.2.2 0 (by omega), gx.2.2 1 (by omega), gx.2.2 2 (by omega), gx.2.2 3 (by omega), gx.2.2 4 (by omega)]
    have f25 : s3.1 24 = nI K.2.2.2.2.1.length := (z1 24 (by decide) (by decide) (by decide)).trans hk.2.2.2.1
    rw [f25]
    have hf19 : K.2.2.2.2.1.length < 20 := by omega
    refine tw_cv.use (by decide) (t_keep (s := s3) ok (Or.inl ⟨rfl, rfl⟩) (x.1, K.2.2.2.1) (q := K.2.2.2.2.1) (by omega) (by rw [z2 19 (by decide), z2 22 (by decide)]; exact hk.2.2.2.2.1) hq.2.2.1.1 z18) ?_
    rintro s9 ⟨F, A, rfl, hF⟩
    have hpush : pushA K.2.2.2.2.1 (x.1, K.2.2.2.1) = K.2.2.2.2.1 ++ [(x.1, K.2.2.2.1)] := by unfold pushA; rw [if_neg (by omega)]
    rw [hpush] at hF
    have f25' : (tw_sa (tw_sa s3 19 F) 22 A).1 24 = nI K.2.2.2.2.1.length := f25
    have e20 : nI K.2.2.2.2.1.length = 20 ↔ K.2.2.2.2.1.length = 20 := nI_eq (b := 20) (by omega) (by omega)
    rw [f25', e20]
    refine ⟨fun _ => ?_, fun c => absurd c (by omega)⟩
    dsimp only
    have f24' : (tw_pi (tw_sa (tw_sa s3 19 F) 22 A) 24 (nI K.2.2.2.2.1.length + 1)).1 25 = nI (n - 1) := f24
    rw [f24', nI_lit 49, nI_mul]
    refine tw_cv.eq (by decide) (t_copy (a := 49 * (n - 1)) (b := 0) (m := 49) ok (by decide) mia15 (by decide) (by show _ ≤ 980; omega) (by decide)) (tw_cv.eq (by decide) (t_noCoins ok) ?_)
    subst hQ
    rw [hdk]
    have y2 : ∀ k, k ≠ 15 → k ≠ 17 → k ≠ 18 → k ≠ 19 → k ≠ 22 → (tw_sa (tw_sa (tw_pi (tw_sa (tw_sa s3 19 F) 22 A) 24 (nI K.2.2.2.2.1.length + 1)) 15 (cpf ((tw_pi (tw_sa (tw_sa s3 19 F) 22 A) 24 (nI K.2.2.2.2.1.length + 1)).2.1 15) ((tw_pi (tw_sa (tw_sa s3 19 F) 22 A) 24 (nI K.2.2.2.2.1.length + 1)).2.1 20) (49 * (n - 1)) 0 49)) 17 (fun k => if k < 32 then 0 else (tw_sa (tw_pi (tw_sa (tw_sa s3 19 F) 22 A) 24 (nI K.2.2.2.2.1.length + 1)) 15 (cpf ((tw_pi (tw_sa (tw_sa s3 19 F) 22 A) 24 (nI K.2.2.2.2.1.length + 1)).2.1 15) ((tw_pi (tw_sa (tw_sa s3 19 F) 22 A) 24 (nI K.2.2.2.2.1.length + 1)).2.1 20) (49 * (n - 1)) 0 49)).2.1 17 k)).2.1 k = s.2.1 k := by
      intro k h15 h17 h18 h20 h23
      rw [sa_ne h17, sa_ne h15]
      show (tw_sa (tw_sa s3 19 F) 22 A).2.1 k = _
      rw [sa_ne h23, sa_ne h20, z2 k h18]
    have e15 : (tw_pi (tw_sa (tw_sa s3 19 F) 22 A) 24 (nI K.2.2.2.2.1.length + 1)).2.1 15 = s.2.1 15 := z2 15 (by decide)
    have e19 : (tw_pi (tw_sa (tw_sa s3 19 F) 22 A) 24 (nI K.2.2.2.2.1.length + 1)).2.1 20 = s.2.1 20 := z2 20 (by decide)
    refine ⟨rfl, hD.1.of (y2 1 (by decide) (by decide) (by decide) (by decide) (by decide)) (z1 2 (by decide) (by decide) (by decide)) (z1 9 (by decide) (by decide) (by decide)) (z1 10 (by decide) (by decide) (by decide)), z11, (z1 14 (by decide) (by decide) (by decide)).trans hk.1, ?_, ?_, ?_, ?_, ?_, ?_, (z1 26 (by decide) (by decide) (by decide)).trans hk.2.2.2.2.2.2.2.1, ?_⟩
    · refine tr_back (s := s) (s1 := s) (T := K.2.2.2.1) hq hokx gx.2.1 ?_ (fun k hk => ?_)
      · show cpf _ _ _ _ _ = _
        rw [e15, e19]
      · show (if k < 32 then 0 else _) = 0
        rw [if_pos hk]
    · refine hk.2.2.1.of (fun j hj => ?_)
      show cpf _ _ _ _ _ j = _
      rw [e15]
      simp only [cpf]
      rw [if_neg (by omega)]
    · show nI K.2.2.2.2.1.length + 1 = nI (K.2.2.2.2.1 ++ [(x.1, K.2.2.2.1)]).length
      rw [List.length_append, nI_1]; rfl
    · show hist _ _ _
      exact hF
    · refine f24'.trans ?_
      show nI (n - 1) = nI (K.2.2.2.2.2.1.dropLast).length
      rw [List.length_dropLast, hn]
    · show hist _ _ _
      rw [y2 20 (by decide) (by decide) (by decide) (by decide) (by decide), y2 23 (by decide) (by decide) (by decide) (by decide) (by decide)]
      intro i y hy
      refine hk.2.2.2.2.2.2.1 i y ?_
      have hy : (K.2.2.2.2.2.1.dropLast)[i]? = some y := hy
      rw [List.getElem?_dropLast] at hy
      split at hy
      · exact hy
      · cases hy
    · show mk_at _ _
      rw [y2 21 (by decide) (by decide) (by decide) (by decide) (by decide)]
      exact hk.2.2.2.2.2.2.2.2
end TW25
