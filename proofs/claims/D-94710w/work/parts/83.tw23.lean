/-! CONTRACTS of the reference: acts, fourth: forget, shift, stake -/
set_option maxRecDepth 100000
/-- the sets from k on without a look -/
def wok (l : Nat) (T : zs_T) (k : Nat) : zs_T := T.take k ++ (T.drop k).filterMap (zs_wo l)
theorem wok_len {l : Nat} {T : zs_T} {k : Nat} : (wok l T k).length ≤ T.length := by
  unfold wok
  have := List.length_filterMap_le (zs_wo l) (T.drop k)
  simp at this ⊢
  omega
theorem wok_0 {l : Nat} {T : zs_T} : wok l T 0 = T.filterMap (zs_wo l) := by simp [wok]
theorem wok_all {l : Nat} {T : zs_T} : wok l T T.length = T := by simp [wok]
theorem wok_get {l : Nat} {T : zs_T} {k : Nat} (hk : k < T.length) : (wok l T (k + 1))[k]? = some (zs_at T k) ∧ k < (wok l T (k + 1)).length := by
  have h2 : k < (wok l T (k + 1)).length := by unfold wok; simp; omega
  refine ⟨?_, h2⟩
  unfold wok
  rw [List.getElem?_append_left (by simp; omega), List.getElem?_take, if_pos (by omega)]
  exact zs_get hk
theorem take_s {T : zs_T} {k : Nat} (hk : k < T.length) : T.take (k + 1) = T.take k ++ [zs_at T k] := by
  rw [List.take_succ, zs_get hk]; rfl
theorem drop_s {T : zs_T} {k : Nat} (hk : k < T.length) : T.drop k = zs_at T k :: T.drop (k + 1) := by
  have h1 : T[k]? = some (zs_at T k) := zs_get hk
  rw [List.getElem?_eq_getElem hk, Option.some.injEq] at h1
  rw [← h1]
  exact (List.drop_eq_getElem_cons hk)
theorem wok_keep {l : Nat} {T : zs_T} {k : Nat} (hk : k < T.length) (h : zs_wo l (zs_at T k) = some (zs_at T k)) : wok l T (k + 1) = wok l T k := by
  unfold wok
  rw [take_s hk, drop_s hk, List.filterMap_cons, h]
  simp
theorem wok_none {l : Nat} {T : zs_T} {k : Nat} (hk : k < T.length) (h : zs_wo l (zs_at T k) = none) : (wok l T (k + 1)).eraseIdx k = wok l T k := by
  unfold wok
  rw [take_s hk, drop_s hk, List.filterMap_cons, h]
  simp only [List.append_assoc, List.singleton_append]
  have hl : (T.take k).length = k := by simp; omega
  rw [List.eraseIdx_append_of_length_le (by omega), hl]
  simp
theorem wok_some {l : Nat} {T : zs_T} {k : Nat} {e : zs_E} (hk : k < T.length) (h : zs_wo l (zs_at T k) = some e) : (wok l T (k + 1)).set k e = wok l T k := by
  unfold wok
  rw [take_s hk, drop_s hk, List.filterMap_cons, h]
  simp only [List.append_assoc, List.singleton_append]
  have hl : (T.take k).length = k := by simp; omega
  rw [List.set_append_right _ _ (by omega), hl]
  simp
/-- how a set is, as it must be -/
def e_ok (L N : Nat) (e : zs_E) : Prop := e.1 < L ∧ (∀ b, e.2.1 = some b → b < L ∧ b ≠ e.1) ∧ (match e.2.1 with
  | none => e.2.2.1 0 + e.2.2.1 1 = N
  | some _ => e.2.2.1 0 + e.2.2.1 1 + e.2.2.1 2 + e.2.2.1 3 = N) ∧ ∀ o, o < 4 → e.2.2.2 o ≤ 99
theorem wo_ok {L N l : Nat} {e e' : zs_E} (h : e_ok L N e) (he : zs_wo l e = some e') : e_ok L N e' := by
  obtain ⟨h1, h2, h3, h4⟩ := h
  unfold zs_wo at he
  by_cases c : e.1 = l
  · rw [if_pos c] at he
    cases q : e.2.1 with
    | none => rw [q] at he; cases he
    | some b =>
      rw [q] at he h3
      cases he
      refine ⟨(h2 b q).1, fun b' hb' => (by cases hb'), ?_, fun _ _ => Nat.zero_le _⟩
      simp only at h3 ⊢
      simp
      omega
  · rw [if_neg c] at he
    by_cases c2 : e.2.1 = some l
    · rw [if_pos c2] at he
      rw [c2] at h3
      cases he
      refine ⟨h1, fun b' hb' => (by cases hb'), ?_, fun _ _ => Nat.zero_le _⟩
      simp only at h3 ⊢
      simp
      omega
    · rw [if_neg c2] at he
      cases he
      exact ⟨h1, h2, h3, h4⟩
theorem wok_ok {L N l : Nat} {T : zs_T} (h : zs_ok L N T) (k : Nat) : zs_ok L N (wok l T k) := by
  refine ⟨Nat.le_trans wok_len h.1, fun e he => ?_⟩
  unfold wok at he
  rcases List.mem_append.mp he with q | q
  · exact h.2 e (List.mem_of_mem_take q)
  · obtain ⟨e', h1, h2⟩ := List.mem_filterMap.mp q
    exact wo_ok (h.2 e' (List.mem_of_mem_drop h1)) h2
theorem set_ok {L N : Nat} {T : zs_T} (h : zs_ok L N T) {k : Nat} {e : zs_E} (he : e_ok L N e) : zs_ok L N (T.set k e) := by
  refine ⟨by rw [List.length_set]; exact h.1, fun x hx => ?_⟩
  rcases List.mem_or_eq_of_mem_set hx with q | q
  · exact h.2 x q
  · rw [q]; exact he
section TW23
variable {G : wq_G} {l : Launch} {o : Nat} {ad : Nat → Nat} {h : wq_H} {s : tw_S} {D : zs_D}
theorem t_forget (ok : tw_ok G o ad) (x : Int32) (hD : tr_d s D) (dk : dok D) : wq_C G l 4 0 0 mX3_forget [.ref o, .int x] (tw_h G o ad s h) (tw_qi G o ad h fun r s' => r = (dk_forget D x).1 ∧ tr_d s' (dk_forget D x).2) := by
  generalize hQ : (fun (r : Int32) (s' : tw_S) => r = (dk_forget D x).1 ∧ tr_d s' (dk_forget D x).2) = Q
  refine wq_C.of pn_X3 (Nat.le_of_ble_eq_true rfl) rfl (vX3_forget_0 ok (tw_cv.eq (by decide) (t_good ok) ?_))
  have no1 : ∀ t, dk_forget D x = (0, dk_t D t) → tw_ci G l o ad h 4 mX3_isNot [.ref o, .int t] (tw_g s) (fun y s' => (y = 0 ∨ y = 1) ∧ Q y s') := by
    intro t e
    refine tw_ci.is (by decide) (t_isNot ok t) ⟨Or.inl rfl, ?_⟩
    subst hQ
    rw [e]
    exact hD.ask (v := 0) (t := t) ⟨rfl, (tw_g_fr s).trans (tw_fr_pi (by decide)), tw_pi_same⟩
  cases hK : D.2.2.2.2.2 with
  | none =>
    have hb : (tw_g s).1 14 = b2i false := (tw_g_14 s).trans (hD.n hK).1
    refine tw_ci.eq (by decide) (t_isLook (L := 0) (N := 0) (T := []) ok x false hb (fun q => absurd q (by decide))) ?_
    exact ⟨fun c => absurd rfl c, fun _ => no1 1 (by unfold dk_forget; rw [hK])⟩
  | some K =>
    have hk := hD.k hK
    have hok := dk.2.2 K hK
    have hb : (tw_g s).1 14 = b2i true := (tw_g_14 s).trans hk.1
    have hq : tr_q (tw_g s) K.1 K.2.1 K.2.2.2.1 := hk.2.1
    have h8 := tr_8 hq
    have hL := hok.2.2.1
    refine tw_ci.eq (by decide) (t_isLook ok x true hb (fun _ => hq)) ?_
    rw [Bool.true_and, b2i_0]
    refine ⟨fun c => ?_, fun c => no1 1 (by unfold dk_forget; rw [hK]; simp only; rw [c]; rfl)⟩
    simp only [Bool.not_eq_false] at c
    have hdk : dk_forget D x = (if K.2.2.2.1.any (fun e => zs_isof e x.toNatClampNeg) then (1, dk_act D K (K.2.2.2.1.filterMap (zs_wo x.toNatClampNeg)) (mkA 2 x (-2) (-2) (-2))) else (0, dk_t D 5)) := by
      unfold dk_forget; rw [hK]; simp only; rw [if_pos c]
    obtain ⟨i, hi, rfl⟩ := inB_of c
    rw [nI_clamp (by omega)] at hdk
    have hq0 := was_q hk.2.1
    generalize hT : K.2.2.2.1 = T at *
    -- is it of the look
    have isof : ∀ k, k < T.length → (zs_isof (zs_at T k) i = true ↔ (nI (zs_at T k).1 = nI i ∨ ta_sec (zs_at T k).2.1 = nI i)) := by
      intro k hk
      have oe := ok_get hok.1 (by rw [hT]; exact hk)
      rw [hT] at oe
      have e1 : nI (zs_at T k).1 = nI i ↔ (zs_at T k).1 = i := nI_eq (by omega) (by omega)
      have e2 : ta_sec (zs_at T k).2.1 = nI i ↔ (zs_at T k).2.1 = some i := by
        cases q : (zs_at T k).2.1 with
        | none =>
          have : ∀ i, i < 6 → ¬ (-2 : Int32) = nI i := by decide
          simp only [ta_sec, reduceCtorEq, iff_false]
          exact this i (by omega)
        | some b =>
          have := (oe.2.1 b q).1
          simp only [ta_sec, Option.some.injEq]
          exact nI_eq (by omega) (by omega)
      unfold zs_isof
      rw [e1, e2]
      simp
    have wo_of : ∀ k, k < T.length → zs_isof (zs_at T k) i = false → zs_wo i (zs_at T k) = some (zs_at T k) := by
      intro k hk hf
      unfold zs_isof at hf
      simp at hf
      unfold zs_wo
      rw [if_neg hf.1, if_neg hf.2]
    have i17 : ∀ j p : Nat, (17 : Int32) + 4 * nI j + nI p = nI (17 + 4 * j + p) := fun j p => by rw [nI_lit 17, nI_lit 4, nI_mul, nI_add, nI_add]
    -- from the last set to the first
    have go : ∀ k s', k ≤ T.length → ar_t (tw_was s) s' (wok i T k) → K.2.2.2.1.any (fun e => zs_isof e i) = true → tw_T G l o ad h 4 mX3_forget (tw_qi G o ad h Q) 107 [some (.ref o), some (.int (nI i)), none, some (.int (nI k - 1)), none, none, none, none, none] [] s' := by
      intro k
      induction k with
      | zero =>
        intro s' hkl ha hany
        rw [hT] at hany
        rw [hany, if_pos rfl] at hdk
        rw [wok_0] at ha
        refine vX3_forget_107 ok ⟨fun _ => ?_, fun c => absurd (by decide) c⟩
        have hok2 := wok_ok (l := i) hok.1 0
        rw [hT, wok_0] at hok2
        refine t_fin2 ok hD hK dk ha hok2 2 (nI i) (-2) (-2) (-2) (by decide) (fun s' hs' => ⟨Or.inr rfl, ?_⟩)
        subst hQ
        rw [hdk]
        exact ⟨rfl, hs'⟩
      | succ k ih =>
        intro s' hkl ha hany
        have hkT : k < T.length := by omega
        have hok2 := wok_ok (l := i) hok.1 (k + 1)
        rw [hT] at hok2
        have hq' := ha.q hq0 hok2
        obtain ⟨hget, hlt⟩ := wok_get (l := i) hkT
        have eat := zs_at_eq hget
        have a1 := tr_at hq' hlt
        rw [eat] at a1
        have osec := tr_sec hq' hlt
        rw [eat] at osec
        have io := isof k hkT
        have e1 : nI (k + 1) - 1 = nI k := nI_pred k
        have h4 := zs_out_le (zs_at T k)
        have i9 : (9 : Int32) + nI k = nI (9 + k) := by rw [nI_lit 9, nI_add]
        have i1 : (1 : Int32) + nI k = nI (1 + k) := by rw [nI_lit 1, nI_add]
        have ipre : nI k + -1 = nI k - 1 := (Int32.sub_eq_add_neg (nI k) 1).symm
        have nxt : ∀ s', ar_t (tw_was s) s' (wok i T k) → tw_T G l o ad h 4 mX3_forget (tw_qi G o ad h Q) 107 [some (.ref o), some (.int (nI i)), none, some (.int (nI k + -1)), none, none, none, none, none] [] s' := by
          intro s' ha
          rw [ipre]
          exact ih s' (by omega) ha hany
        -- a set of the look
        have hit : ∀ f : Bool, (f = true ↔ (zs_at T k).1 = i) → zs_isof (zs_at T k) i = true → tw_T G l o ad h 4 mX3_forget (tw_qi G o ad h Q) 151 [some (.ref o), some (.int (nI i)), none, some (.int (nI k)), some (.int (b2i f)), none, none, none, none] [] s' := by
          intro f hf hof
          refine vX3_forget_151 ok (tw_ld_n _ i9 (by show _ < 346; omega) ?_)
          rw [a1.2.1]
          refine ⟨fun c1 => ?_, fun c1 => ?_⟩
          · have hs : (zs_at T k).2.1 ≠ none := fun q => c1 (osec.mpr q)
            obtain ⟨b, hb⟩ := Option.ne_none_iff_exists'.mp hs
            have ho4 : zs_out (zs_at T k) = 4 := by unfold zs_out; rw [hb]
            have oe := ok_get hok.1 (by rw [hT]; exact hkT)
            rw [hT] at oe
            have i0 : (17 : Int32) + 4 * nI k = nI (17 + 4 * k) := by rw [nI_lit 17, nI_lit 4, nI_mul, nI_add]
            have ip : ∀ p : Nat, nI (17 + 4 * k) + nI p = nI (17 + 4 * k + p) := fun p => nI_add _ _
            have tv : ∀ p, p < 4 → s'.2.1 15 (17 + 4 * k + p) = nI ((zs_at T k).2.2.1 p) := fun p hp => a1.2.2.1 p (by omega)
            -- what is laid down
            have lay : ∀ (z0 : Nat) (t0 t1 : Nat), zs_wo i (zs_at T k) = some (z0, none, fun o => if o = 0 then t0 else t1, fun _ => 0) → tw_T G l o ad h 4 mX3_forget (tw_qi G o ad h Q) 305 [some (.ref o), some (.int (nI i)), none, some (.int (nI k)), none, some (.int (nI (17 + 4 * k))), some (.int (nI t0)), some (.int (nI t1)), none] [.int (nI z0), .int (1 + nI k), .ref (ad 15)] s' := by
              intro z0 t0 t1 hw
              refine vX3_forget_305 ok (tw_st_n _ i1 (by show _ < 346; omega) (tw_st_n _ i9 (by show _ < 346; omega) (tw_st_n (17 + 4 * k) rfl (by show _ < 346; omega) (tw_st_n _ (ip 1) (by show _ < 346; omega) (tw_st_n _ (ip 2) (by show _ < 346; omega) (tw_st_n _ (ip 3) (by show _ < 346; omega) ?_))))))
              generalize hs6 : tw_pa (tw_pa (tw_pa (tw_pa (tw_pa (tw_pa s' 15 (1 + k) (nI z0)) 15 (9 + k) (-2)) 15 (17 + 4 * k) (nI t0)) 15 (17 + 4 * k + 1) (nI t1)) 15 (17 + 4 * k + 2) 0) 15 (17 + 4 * k + 3) 0 = s6
              have z1 : s6.1 = s'.1 := by subst hs6; rfl
              have z2 : ∀ a, a ≠ 15 → s6.2.1 a = s'.2.1 a := by intro a h1; subst hs6; rw [pa_no h1, pa_no h1, pa_no h1, pa_no h1, pa_no h1, pa_no h1]
              have z3 : ∀ p, p ≠ 1 + k → p ≠ 9 + k → (p < 17 + 4 * k ∨ 17 + 4 * k + 4 ≤ p) → s6.2.1 15 p = s'.2.1 15 p := by
                intro p h1 h2 h3; subst hs6
                rw [pa_ne (by omega), pa_ne (by omega), pa_ne (by omega), pa_ne (by omega), pa_ne (by omega), pa_ne (by omega)]
              have z4 : s6.2.1 15 (1 + k) = nI z0 := by
                subst hs6
                rw [pa_ne (by omega), pa_ne (by omega), pa_ne (by omega), pa_ne (by omega), pa_ne (by omega), pa_eq]
              have z5 : s6.2.1 15 (9 + k) = -2 := by
                subst hs6
                rw [pa_ne (by omega), pa_ne (by omega), pa_ne (by omega), pa_ne (by omega), pa_eq]
              have z6 : s6.2.1 15 (17 + 4 * k + 0) = nI t0 := by
                subst hs6
                rw [pa_ne (by omega), pa_ne (by omega), pa_ne (by omega), Nat.add_zero, pa_eq]
              have z7 : s6.2.1 15 (17 + 4 * k + 1) = nI t1 := by
                subst hs6
                rw [pa_ne (by omega), pa_ne (by omega), pa_eq]
              have coins : ∀ m q s7, q + m = 4 → s7.1 = s6.1 → (∀ a, a ≠ 17 → s7.2.1 a = s6.2.1 a) → (∀ p, (p < 4 * k ∨ 4 * k + 4 ≤ p) → s7.2.1 17 p = s6.2.1 17 p) → (∀ p, p < q → s7.2.1 17 (4 * k + p) = 0) → tw_T G l o ad h 4 mX3_forget (tw_qi G o ad h Q) 360 [some (.ref o), some (.int (nI i)), none, some (.int (nI k)), none, none, none, none, some (.int (nI q))] [] s7 := by
                intro m
                induction m with
                | zero =>
                  intro q s7 hq g1 g2 g3 g4
                  obtain rfl : q = 4 := by omega
                  refine vX3_forget_360 ok ⟨fun _ => nxt s7 ?_, fun c => absurd (by decide) c⟩
                  rw [← wok_some hkT hw]
                  refine ⟨g1.trans (z1.trans ha.1), fun a h1 h2 => (g2 a h2).trans ((z2 a h1).trans (ha.2.1 a h1 h2)), fun p hp => ?_, ?_, ?_⟩
                  · rw [g2 15 (by decide), z3 p (by omega) (by omega) (by omega)]; exact ha.2.2.1 p hp
                  · rw [g2 15 (by decide)]
                    refine ta_put (T := wok i T (k + 1)) (k := k) (by rw [List.length_set]) ha.2.2.2.1 (z3 0 (by omega) (by omega) (by omega)) (fun e he => ?_) (fun j hj => ⟨?_, fun hjl => ?_⟩)
                    · rw [List.getElem?_set_self hlt, Option.some.injEq] at he
                      subst he
                      refine ⟨z4, z5, fun p hp => ?_⟩
                      have hp : p < 2 := hp
                      obtain rfl | rfl : p = 0 ∨ p = 1 := by omega
                      · exact z6
                      · exact z7
                    · rw [List.getElem?_set_ne (by omega)]
                    · have := wok_len (l := i) (T := T) (k := k + 1)
                      exact ⟨z3 _ (by omega) (by omega) (by omega), z3 _ (by omega) (by omega) (by omega), fun p hp => z3 _ (by omega) (by omega) (by omega)⟩
                  · refine tc_put (T := wok i T (k + 1)) (k := k) ha.2.2.2.2 (fun e he p hp => ?_) (fun j hj => ⟨?_, fun _ p hp => ?_⟩)
                    · rw [List.getElem?_set_self hlt, Option.some.injEq] at he
                      subst he
                      have hp : p < 2 := hp
                      rw [g4 p (by omega)]; rfl
                    · rw [List.getElem?_set_ne (by omega)]
                    · rw [g3 _ (by omega), z2 17 (by decide)]
                | succ m ih2 =>
                  intro q s7 hq g1 g2 g3 g4
                  have i4 : (4 : Int32) * nI k + nI q = nI (4 * k + q) := by rw [nI_lit 4, nI_mul, nI_add]
                  refine vX3_forget_360 ok ⟨fun c => ?_, fun _ => tw_st_n _ i4 (by show _ < 32; omega) ?_⟩
                  · rw [nI_lit 4, nI_leI (by omega) (by omega)] at c
                    omega
                  · rw [nI_1]
                    refine ih2 (q + 1) _ (by omega) g1 (fun a h1 => ?_) (fun p hp => ?_) (fun p hp => ?_)
                    · rw [pa_no h1]; exact g2 a h1
                    · rw [pa_ne (by omega)]; exact g3 p hp
                    · by_cases e : p = q
                      · subst e; rw [pa_eq]
                      · rw [pa_ne (by omega)]; exact g4 p (by omega)
              exact coins 4 0 s6 (by omega) rfl (fun _ _ => rfl) (fun _ _ => rfl) (fun p hp => by omega)
            have ip0 : ∀ p : Nat, (17 : Int32) + 4 * nI k + nI p = nI (17 + 4 * k + p) := fun p => i17 k p
            rw [i0]
            cases f with
            | false =>
              have hne : ¬ (zs_at T k).1 = i := fun q => absurd (hf.mpr q) (by decide)
              have hs2 : (zs_at T k).2.1 = some i := by
                unfold zs_isof at hof; simp [hne] at hof; exact hof
              refine ⟨fun _ => tw_ld_n (17 + 4 * k) rfl (by show _ < 346; omega) (tw_ld_n _ (ip 1) (by show _ < 346; omega) ?_), fun c => absurd rfl c⟩
              have t0 := tv 0 (by omega)
              rw [Nat.add_zero] at t0
              rw [t0, tv 1 (by omega), nI_add]
              refine vX3_forget_223 ok ⟨fun _ => tw_ld_n _ (ip 2) (by show _ < 346; omega) (tw_ld_n _ (ip 3) (by show _ < 346; omega) ⟨fun _ => tw_ld_n _ i1 (by show _ < 346; omega) ?_, fun c => absurd rfl c⟩), fun c => absurd rfl c⟩
              rw [tv 2 (by omega), tv 3 (by omega), nI_add, a1.1]
              exact lay (zs_at T k).1 _ _ (by unfold zs_wo; rw [if_neg hne, if_pos hs2])
            | true =>
              have he : (zs_at T k).1 = i := hf.mp rfl
              refine ⟨fun c => absurd c (by decide), fun _ => tw_ld_n (17 + 4 * k) rfl (by show _ < 346; omega) (tw_ld_n _ (ip 2) (by show _ < 346; omega) ?_)⟩
              have t0 := tv 0 (by omega)
              rw [Nat.add_zero] at t0
              rw [t0, tv 2 (by omega), nI_add]
              refine vX3_forget_223 ok ⟨fun c => absurd c (by decide), fun _ => tw_ld_n _ (ip 1) (by show _ < 346; omega) (tw_ld_n _ (ip 3) (by show _ < 346; omega) ⟨fun c => absurd c (by decide), fun _ => tw_ld_n _ i9 (by show _ < 346; omega) ?_⟩)⟩
              rw [tv 1 (by omega), tv 3 (by omega), nI_add, a1.2.1, hb]
              exact lay b _ _ (by unfold zs_wo; rw [if_pos he, hb])
          · have hs := osec.mp c1
            have he : (zs_at T k).1 = i := by
              unfold zs_isof at hof; rw [hs] at hof; simpa using hof
            refine tw_cv.use (by decide) (t_goesAway ok (Nat.le_trans wok_len (by omega)) ha.2.2.2.1 ha.2.2.2.2 hlt) fun s6 h6 => nxt s6 ?_
            rw [wok_none hkT (by unfold zs_wo; rw [if_pos he, hs])] at h6
            exact ⟨h6.1.trans ha.1, fun a h1 h2 => (h6.2.1 a h1 h2).trans (ha.2.1 a h1 h2), fun p hp => (h6.2.2.1 p hp).trans (ha.2.2.1 p hp), h6.2.2.2.1, h6.2.2.2.2⟩
        rw [e1]
        have oe := ok_get hok.1 (by rw [hT]; exact hkT)
        rw [hT] at oe
        have e1i : nI (zs_at T k).1 = nI i ↔ (zs_at T k).1 = i := nI_eq (by omega) (by omega)
        refine vX3_forget_107 ok ⟨fun c => absurd c (nI_pos (by omega)), fun _ => tw_ld_n _ i1 (by show _ < 346; omega) ?_⟩
        rw [a1.1]
        refine ⟨fun c1 => ⟨fun c => absurd rfl c, fun _ => tw_ld_n _ i9 (by show _ < 346; omega) ?_⟩, fun c1 => ⟨fun _ => hit true ⟨fun _ => e1i.mp c1, fun _ => rfl⟩ (io.mpr (Or.inl c1)), fun c => absurd c (by decide)⟩⟩
        rw [a1.2.1]
        refine ⟨fun c2 => hit false ⟨fun q => absurd q (by decide), fun q => absurd (e1i.mpr q) c1⟩ (io.mpr (Or.inr c2)), fun c2 => nxt s' ?_⟩
        have hno : zs_isof (zs_at T k) i = false := by
          cases q : zs_isof (zs_at T k) i with
          | false => rfl
          | true => rcases io.mp q with q | q
                    · exact absurd q c1
                    · exact absurd q c2
        rw [← wok_keep hkT (wo_of k hkT hno)]
        exact ha
    -- whether there is any
    have any : ∀ n k, k + n = T.length → tw_T G l o ad h 4 mX3_forget (tw_qi G o ad h Q) 22 [some (.ref o), some (.int (nI i)), some (.int (b2i (anyB (fun k => zs_isof (zs_at T k) i) k))), some (.int (nI k)), none, none, none, none, none] [] (tw_g s) := by
      intro n
      induction n with
      | zero =>
        intro k hkn
        obtain rfl : k = T.length := by omega
        have hall : T.any (fun e => zs_isof e i) = anyB (fun k => zs_isof (zs_at T k) i) T.length := by
          rw [Bool.eq_iff_iff, anyB_iff, List.any_eq_true]
          constructor
          · rintro ⟨e, he, h1⟩
            obtain ⟨k, hk⟩ := List.getElem?_of_mem he
            exact ⟨k, (List.getElem?_eq_some_iff.mp hk).1, by rw [zs_at_eq hk]; exact h1⟩
          · rintro ⟨k, hk, h1⟩
            exact ⟨zs_at T k, List.mem_of_getElem? (zs_get hk), h1⟩
        refine vX3_forget_22 ok (tw_ld_n 0 rfl (by decide) ?_)
        rw [show (tw_g s).2.1 15 0 = nI T.length from hq.1.1]
        refine ⟨fun _ => ⟨fun c1 => ?_, fun c1 => ?_⟩, fun c => absurd (Int32.le_refl _) c⟩
        · rw [b2i_0, ← hall] at c1
          simp only [Bool.not_eq_false] at c1
          refine tw_cv.eq (by decide) (t_was ok) (tw_ld_n 0 rfl (by decide) ?_)
          rw [show (tw_was s).2.1 15 0 = nI T.length from hq0.1.1]
          refine go T.length (tw_was s) (Nat.le_refl _) ?_ (by rw [hT]; exact c1)
          rw [wok_all]
          exact ⟨rfl, fun _ _ _ => rfl, fun _ _ => rfl, hq0.1, hq0.2.1⟩
        · rw [b2i_0, ← hall] at c1
          refine no1 5 ?_
          rw [hdk, c1]; rfl
      | succ n ih =>
        intro k hkn
        have hkT : k < T.length := by omega
        have io := isof k hkT
        have a1 := tr_at hq hkT
        have i9 : (9 : Int32) + nI k = nI (9 + k) := by rw [nI_lit 9, nI_add]
        have i1 : (1 : Int32) + nI k = nI (1 + k) := by rw [nI_lit 1, nI_add]
        have ih := ih (k + 1) (by omega)
        rw [← nI_1] at ih
        have st : anyB (fun k => zs_isof (zs_at T k) i) (k + 1) = (anyB (fun k => zs_isof (zs_at T k) i) k || zs_isof (zs_at T k) i) := rfl
        rw [st] at ih
        refine vX3_forget_22 ok (tw_ld_n 0 rfl (by decide) ?_)
        rw [show (tw_g s).2.1 15 0 = nI T.length from hq.1.1]
        refine ⟨fun c => ?_, fun _ => ⟨fun c1 => ?_, fun c1 => tw_ld_n _ i1 (by show _ < 346; omega) ?_⟩⟩
        · rw [nI_leI (by omega) (by omega)] at c
          omega
        · rw [b2i_0] at c1
          simp only [Bool.not_eq_false] at c1
          rw [c1, Bool.true_or] at ih
          exact ih
        · rw [b2i_0] at c1
          rw [c1, Bool.false_or] at ih
          rw [a1.1]
          refine ⟨fun c2 => ?_, fun c2 => tw_ld_n _ i9 (by show _ < 346; omega) ?_⟩
          · rw [io.mpr (Or.inl c2)] at ih; exact ih
          · rw [a1.2.1]
            refine ⟨fun c3 => ?_, fun c3 => ?_⟩
            · have hno : zs_isof (zs_at T k) i = false := by
                cases q : zs_isof (zs_at T k) i with
                | false => rfl
                | true => rcases io.mp q with q | q
                          · exact absurd q c2
                          · exact absurd q c3
              rw [hno] at ih; exact ih
            · rw [io.mpr (Or.inr c3)] at ih; exact ih
    exact any T.length 0 (by omega)
end TW23
