/-! CONTRACTS of the reference: a ray's line -/
set_option maxRecDepth 100000
def rd_py (t : Nat → Int) (q : rd_Q) : rd_Q := (q.1, q.2.1, q.2.2.1, q.2.2.2.1, q.2.2.2.2.1, q.2.2.2.2.2.1, q.2.2.2.2.2.2.1 ++ [t], q.2.2.2.2.2.2.2)
section TW35
variable {G : wq_G} {l : Launch} {o : Nat} {ad : Nat → Nat} {h : wq_H} {s s0 : tw_S} {tp : Nat → Nat} {n : Nat} {q : rd_Q}
theorem pok_ray {t : Nat → Int} (hp : pok q) (h18 : q.2.2.2.2.2.2.1.length < 18) (ht : ∀ k, k < 4 → -3 ≤ t k ∧ t k ≤ 3) (hn : ∃ k, k < 4 ∧ t k ≠ 0) : pok (rd_py t q) := by
  obtain ⟨p1, p2, p3, p4, p5, ⟨q1, q2, q3, q4, q5, q6⟩, p7⟩ := hp
  refine ⟨p1, p2, p3, p4, p5, ⟨q1, q2, q3, ?_, fun x hx => ?_, q6⟩, p7⟩
  · show (q.2.2.2.2.2.2.1 ++ [_]).length ≤ 18
    rw [List.length_append]; show _ + 1 ≤ 18; omega
  · have hx : x ∈ q.2.2.2.2.2.2.1 ++ [t] := hx
    rw [List.mem_append, List.mem_singleton] at hx
    rcases hx with hx | rfl
    · exact q5 x hx
    · exact ⟨ht, hn⟩
theorem tf_ray {a a' : Nat → Int32} {t : Nat → Int} (hp : pok q) (h : tf a q) (hp2 : pok (rd_py t q)) (h18 : q.2.2.2.2.2.2.1.length < 18) (e : ∀ p, p ≠ 85 → a' p = a p) (e85 : a' 85 = nI (q.2.2.2.2.2.2.1.length + 1)) (et : ∀ k, k < 4 → a (86 + 4 * q.2.2.2.2.2.2.1.length + k) = iI (t k)) : tf a' (rd_py t q) := by
  obtain ⟨c1, c2, c3, ⟨d1, d2⟩, c5⟩ := tf_iff.mp h
  have hT : q.2.2.2.2.1.length ≤ 8 := hp.2.2.2.2.1.1
  refine tf_iff.mpr ⟨c_nm.cong c1 (fun p hp => e p (by omega)), ta_cong hT (fun j hj => (e j (by omega)).symm) c2, c_ln.cong hp2 c3 (fun p h1 h2 => e p (by omega)), ⟨?_, fun m hm k hk => ?_⟩, c_rn.cong hp2 c5 (fun p h1 _ => e p (by omega))⟩
  · show _ = nI (q.2.2.2.2.2.2.1 ++ [_]).length
    rw [e85, List.length_append]; rfl
  · have hm : m < (q.2.2.2.2.2.2.1 ++ [t]).length := hm
    rw [List.length_append] at hm
    have hm : m < q.2.2.2.2.2.2.1.length + 1 := hm
    show a' (86 + 4 * m + k) = iI ((((q.2.2.2.2.2.2.1 ++ [t])[m]?).getD (fun _ => 0)) k)
    rw [e _ (by omega)]
    by_cases c : m < q.2.2.2.2.2.2.1.length
    · rw [List.getElem?_append_left c]
      exact d2 m c k hk
    · obtain rfl : m = q.2.2.2.2.2.2.1.length := by omega
      rw [List.getElem?_append_right (Nat.le_refl _), Nat.sub_self]
      exact et k hk
theorem t_rayLine (ok : tw_ok G o ad) {X : rd_X rd_Q} (hx : rf_x s0 tp n s X) (h18 : ∀ q, X = .ok q → q.2.2.2.2.2.2.1.length < 18) : wq_C G l 4 0 0 mX3_rayLine [.ref o] (tw_h G o ad s h) (tw_qv G o ad h fun s' => rf_y s0 tp n s' (X.bind (rd_ray tp n))) := by
  have n0 : ∀ s : tw_S, s.1 13 = 1 → ¬ s.1 13 = 0 := fun s h1 c => absurd (h1.symm.trans c) (by decide)
  cases X with
  | error e =>
    have hx : rf_e s0 s e := hx
    exact wq_C.of pn_X3 (Nat.le_of_ble_eq_true rfl) rfl (vX3_rayLine_0 ok ⟨fun c => absurd c (n0 s hx.2.1), fun _ => rf_x.y (X := .error e) hx⟩)
  | ok q0 =>
    have hr0 : rf_r s0 tp n s q0 := hx
    have h18 := h18 q0 rfl
    generalize hQ : (fun s' => rf_y s0 tp n s' ((Except.ok q0 : rd_X rd_Q).bind (rd_ray tp n))) = Q
    have hQ : ∀ s', rf_y s0 tp n s' ((rd_sd tp n 4 0 false (fun _ => 0) q0).bind (fun x => .ok (rd_py x.1 x.2))) → Q s' := fun s' hs => by subst hQ; exact hs
    have e85 : s.2.1 16 85 = nI q0.2.2.2.2.2.2.1.length := (tf_iff.mp hr0.2.2.2.2.2.2.2.1).2.2.2.1.1
    generalize hN : q0.2.2.2.2.2.2.1.length = N at *
    have i86 : ∀ k : Nat, (86 : Int32) + 4 * nI N + nI k = nI (86 + 4 * N + k) := fun k => by rw [nI_lit 86, nI_lit 4, nI_mul, nI_add, nI_add]
    -- behind a fault
    have dead : ∀ (s0 s : tw_S) (e : Nat × Nat) (x2 x3 : Int32), rf_e s0 s e → (∀ s', rf_y s0 tp n s' (.error e) → Q s') → tw_T G l o ad h 4 mX3_rayLine (tw_qv G o ad h Q) 20 [some (.ref o), some (.int (nI N)), some (.int x2), some (.int x3), none, none, none] [] s := by
      intro s0 s e x2 x3 he hQ
      have fin : Q s := hQ s (rf_x.y (X := .error e) he)
      refine vX3_rayLine_20 ok ⟨fun _ => ⟨fun _ => fin, fun c => absurd c (n0 s he.2.1)⟩, fun _ => ⟨fun _ => ⟨fun c => absurd c (n0 s he.2.1), fun _ => fin⟩, fun _ => tw_cv.use (by decide) (t_mustComma (tp := tp) (n := n) ok (X := .error e) he) fun s' hs' => ?_⟩⟩
      have hs' : rf_e s0 s' e := hs'
      exact ⟨fun c => absurd c (n0 s' hs'.2.1), fun _ => hQ s' (rf_x.y (X := .error e) hs')⟩
    have dead133 : ∀ (s0 s : tw_S) (e : Nat × Nat) (k : Nat) (x4 x6 z0 : Int32), k < 4 → rf_e s0 s e → (∀ s', rf_y s0 tp n s' (.error e) → Q s') → tw_T G l o ad h 4 mX3_rayLine (tw_qv G o ad h Q) 133 [some (.ref o), some (.int (nI N)), none, some (.int (nI k)), some (.int x4), none, some (.int x6)] [.int z0] s := by
      intro s0 s e k x4 x6 z0 hk he hQ
      exact vX3_rayLine_133 ok ⟨fun _ => tw_st_n _ (i86 k) (by show _ < 346; omega) (dead _ _ e _ _ he.pa (fun s' hs' => hQ s' hs'.pa)), fun _ => tw_st_n _ (i86 k) (by show _ < 346; omega) (dead _ _ e _ _ he.pa (fun s' hs' => hQ s' hs'.pa))⟩
    have key : ∀ (m k : Nat) (any : Bool) (t : Nat → Int) (s0 s : tw_S) (q : rd_Q), k + m = 4 → rf_r s0 tp n s q → q.2 = q0.2 → (∀ j, j < k → s.2.1 16 (86 + 4 * N + j) = iI (t j)) → (∀ j, j < k → -3 ≤ t j ∧ t j ≤ 3) → (any = true → ∃ j, j < k ∧ t j ≠ 0) → (k = 4 → any = true) → (∀ s', rf_y s0 tp n s' ((rd_sd tp n m k any t q).bind (fun x => .ok (rd_py x.1 x.2))) → Q s') → tw_T G l o ad h 4 mX3_rayLine (tw_qv G o ad h Q) 20 [some (.ref o), some (.int (nI N)), some (.int (b2i any)), some (.int (nI k)), none, none, none] [] s := by
      intro m
      induction m with
      | zero =>
        intro k any t s0 s q hk hr hq gt gb ga gk hQ
        obtain rfl : k = 4 := by omega
        have hp := hr.2.2.2.2.2.2.2.2
        have hNq : q.2.2.2.2.2.2.1.length = N := by rw [hq]; exact hN
        have w85 : s.2.1 16 85 = nI N := by have := (tf_iff.mp hr.2.2.2.2.2.2.2.1).2.2.2.1.1; rw [hNq] at this; exact this
        refine vX3_rayLine_20 ok ⟨fun _ => ⟨fun c => absurd hr.2.1 c, fun _ => tw_ld_n 85 rfl (by decide) (tw_st_n 85 rfl (by decide) (hQ _ ?_))⟩, fun c => absurd (by decide) c⟩
        rw [w85, nI_1]
        have hp2 : pok (rd_py t q) := pok_ray hp (by omega) gb (ga (gk rfl))
        refine ⟨_, hr.put (s' := tw_pa s 16 85 (nI (N + 1))) (q' := rd_py t q) rfl (fun k hk => pa_no hk) rfl ?_ hp2⟩
        exact tf_ray (a := s.2.1 16) hp hr.2.2.2.2.2.2.2.1 hp2 (by omega) (fun p hp => pa_ne hp) (by rw [pa_eq, hNq]) (fun k hk => by rw [hNq]; exact gt k hk)
      | succ m ih =>
        intro k any t s0 s q hk hr hq gt gb ga gk hQ
        simp only [rd_sd] at hQ
        -- the number behind a sign
        have num : ∀ (s1 : tw_S) (q1 : rd_Q) (less : Bool), rf_r s0 tp n s1 q1 → q1.2 = q0.2 → (∀ s', rf_y s0 tp n s' ((if k = 3 ∧ any = false ∧ q1.1.1 = 3 ∧ q1.1.2.2.2.2 = 0 then rd_err 4 q1 else (rd_no tp n 0 3 q1).bind (fun x => rd_sd tp n m (k + 1) (any || decide (0 < x.1)) (fun j => if j = k then (if less then - (x.1 : Int) else (x.1 : Int)) else t j) x.2)).bind (fun x => .ok (rd_py x.1 x.2))) → Q s') → tw_T G l o ad h 4 mX3_rayLine (tw_qv G o ad h Q) 66 [some (.ref o), some (.int (nI N)), some (.int (b2i any)), some (.int (nI k)), some (.int (b2i less)), none, none] [] s1 := by
          intro s1 q1 less hr1 hq1 hQ1
          obtain ⟨h1, h2, h3, h4, h5, h6, h7, h8, h9⟩ := id hr1
          have e3 : nI q1.1.1 = 3 ↔ q1.1.1 = 3 := nI_eq (b := 3) (by have := h7.1; omega) (by omega)
          have ek : nI k = 3 ↔ k = 3 := nI_eq (b := 3) (by omega) (by omega)
          have go : ¬ (k = 3 ∧ any = false ∧ q1.1.1 = 3 ∧ q1.1.2.2.2.2 = 0) → tw_T G l o ad h 4 mX3_rayLine (tw_qv G o ad h Q) 95 [some (.ref o), some (.int (nI N)), some (.int (b2i any)), some (.int (nI k)), some (.int (b2i less)), none, none] [.int 0] s1 := by
            intro hno
            rw [if_neg hno] at hQ1
            refine vX3_rayLine_95 ok ⟨fun _ => tw_ci.use (by decide) (t_number ok (X := .ok q1) hr1 (lo := 0) (hi := 3) (by decide) (by decide)) fun y s2 h2' => ?_, fun c => absurd rfl c⟩
            have h2' : rf_v s0 tp n y s2 (rd_no tp n 0 3 q1) := h2'
            cases eV : rd_no tp n 0 3 q1 with
            | error e =>
              rw [eV] at h2' hQ1
              have h2' : rf_e s0 s2 e := h2'
              exact ⟨fun _ => dead133 _ _ e k _ _ _ (by omega) h2' hQ1, fun _ => ⟨fun _ => dead133 _ _ e k _ _ _ (by omega) h2' hQ1, fun _ => dead133 _ _ e k _ _ _ (by omega) h2' hQ1⟩⟩
            | ok x =>
              rw [eV] at h2' hQ1
              obtain ⟨rfl, hr2⟩ : y = nI x.1 ∧ rf_r s0 tp n s2 x.2 := h2'
              obtain ⟨r1, r2, r3⟩ := no_range eV
              have hx2 : x.2.2 = q0.2 := by rw [r3]; exact hq1
              have eS2 : s2.2.1 16 = s.2.1 16 := hr2.a16.trans hr.a16.symm
              have kind3 : q1.1.1 = 3 ∧ x.1 = q1.1.2.2.2.2 := by
                unfold rd_no at eV
                by_cases c3 : q1.1.1 = 3
                · rw [if_pos c3] at eV
                  split at eV
                  · cases eV; exact ⟨c3, rfl⟩
                  · cases eV
                · rw [if_neg c3] at eV; cases eV
              have nu : ¬ used x.2 (86 + 4 * N + k) := by
                unfold used
                have a1 : x.2.2.2.2.2.2.2.1.length = N := by rw [hx2]; exact hN
                have a2 : x.2.2.2.2.2.1.length ≤ 8 := by rw [hx2]; exact hr0.2.2.2.2.2.2.2.2.2.2.2.2.1.1
                have a3 : x.2.2.2.2.2.2.1.length ≤ 8 := by rw [hx2]; exact hr0.2.2.2.2.2.2.2.2.2.2.2.2.2.1.2.1
                omega
              have last : ∀ any' : Bool, any' = (any || decide (0 < x.1)) → tw_T G l o ad h 4 mX3_rayLine (tw_qv G o ad h Q) 133 [some (.ref o), some (.int (nI N)), none, some (.int (nI k)), some (.int (b2i less)), none, some (.int (nI x.1))] [.int (b2i any')] s2 := by
                intro any' hany
                have go2 : ∀ z : Int, z = (if less then - (x.1 : Int) else (x.1 : Int)) → tw_T G l o ad h 4 mX3_rayLine (tw_qv G o ad h Q) 20 [some (.ref o), some (.int (nI N)), some (.int (b2i any')), some (.int (nI k + 1)), none, none, none] [] (tw_pa s2 16 (86 + 4 * N + k) (iI z)) := by
                  intro z hz
                  have hz3 : -3 ≤ z ∧ z ≤ 3 := by rw [hz]; split <;> omega
                  have hz0 : 0 < x.1 → z ≠ 0 := by rw [hz]; intro _; split <;> omega
                  rw [nI_1]
                  refine ih (k + 1) any' (fun j => if j = k then z else t j) _ _ x.2 (by omega) (hr2.free nu (iI z)) hx2 (fun j hj => ?_) (fun j hj => ?_) (fun ha => ?_) (fun e => ?_) (fun s' hs' => hQ1 s' ?_)
                  · by_cases c : j = k
                    · subst c; rw [pa_eq, if_pos rfl]
                    · rw [pa_ne (by omega), if_neg c, eS2]; exact gt j (by omega)
                  · by_cases c : j = k
                    · rw [if_pos c]; exact hz3
                    · rw [if_neg c]; exact gb j (by omega)
                  · rw [hany, Bool.or_eq_true] at ha
                    rcases ha with ha | ha
                    · obtain ⟨j, j1, j2⟩ := ga ha
                      exact ⟨j, by omega, by rw [if_neg (by omega)]; exact j2⟩
                    · exact ⟨k, by omega, by rw [if_pos rfl]; exact hz0 (by simpa using ha)⟩
                  · rw [hany]
                    cases ea : any with
                    | true => rfl
                    | false =>
                      rw [Bool.false_or, decide_eq_true_iff]
                      apply Decidable.byContradiction
                      intro c
                      exact hno ⟨by omega, ea, kind3.1, by rw [← kind3.2]; omega⟩
                  · have := hs'.pa
                    rw [hany, hz] at this
                    exact this
                refine vX3_rayLine_133 ok ?_
                rw [b2i_0]
                refine ⟨fun c => tw_st_n _ (i86 k) (by show _ < 346; omega) ?_, fun c => tw_st_n _ (i86 k) (by show _ < 346; omega) ?_⟩
                · have := go2 x.1 (by rw [c]; rfl)
                  rw [← nI_iI] at this
                  exact this
                · simp only [Bool.not_eq_false] at c
                  have := go2 (- (x.1 : Int)) (by rw [c]; rfl)
                  rw [← iI_neg, ← nI_iI] at this
                  exact this
              rw [b2i_0]
              refine ⟨fun c => ?_, fun c => ?_⟩
              · simp only [Bool.not_eq_false] at c
                exact last true (by rw [c]; rfl)
              · have ex : nI x.1 ≤ 0 ↔ x.1 ≤ 0 := nI_leI (b := 0) (by omega) (by omega)
                rw [ex]
                refine ⟨fun c2 => last false ?_, fun c2 => last true ?_⟩
                · rw [c, Bool.false_or, eq_comm, decide_eq_false_iff_not]; omega
                · rw [c, Bool.false_or, eq_comm, decide_eq_true_iff]; omega
          refine vX3_rayLine_66 ok ?_
          rw [ek, b2i_0, h6.2.2.1, e3]
          refine ⟨fun c => go (fun q => c q.1), fun c => ⟨fun c2 => go (fun q => c2 q.2.1), fun c2 => ⟨fun c3 => go (fun q => c3 q.2.2.1), fun c3 => ?_⟩⟩⟩
          have e7 := h6.2.2.2.1 c3
          have n7 := h7.2.2.2.2 c3
          have e70 : nI q1.1.2.2.2.2 = 0 ↔ q1.1.2.2.2.2 = 0 := nI_eq (b := 0) (by omega) (by omega)
          rw [e7, e70]
          refine ⟨fun c4 => go (fun q => c4 q.2.2.2), fun c4 => ?_⟩
          rw [if_pos ⟨c, c2, c3, c4⟩] at hQ1
          refine vX3_rayLine_95 ok ⟨fun q => absurd q (by decide), fun _ => tw_cv.use (by decide) (t_wrong ok hr1 4) fun s3 h3' => tw_ci.use (by decide) (t_number (tp := tp) (n := n) ok (X := .error (4, q1.1.2.1)) h3' (lo := 0) (hi := 3) (by decide) (by decide)) fun y s4 h4' => ?_⟩
          have h4' : rf_e s0 s4 (4, q1.1.2.1) := h4'
          exact ⟨fun _ => dead133 _ _ _ k _ _ _ (by omega) h4' hQ1, fun _ => ⟨fun _ => dead133 _ _ _ k _ _ _ (by omega) h4' hQ1, fun _ => dead133 _ _ _ k _ _ _ (by omega) h4' hQ1⟩⟩
        -- a sign or none
        have sign : ∀ (s1 : tw_S) (q1 : rd_Q), rf_r s0 tp n s1 q1 → q1.2 = q0.2 → (∀ s', rf_y s0 tp n s' ((fun q' => if k = 3 ∧ any = false ∧ q'.1.1 = 3 ∧ q'.1.2.2.2.2 = 0 then rd_err 4 q' else (rd_no tp n 0 3 q').bind (fun x => rd_sd tp n m (k + 1) (any || decide (0 < x.1)) (fun j => if j = k then (if q1.1.1 = 45 then - (x.1 : Int) else (x.1 : Int)) else t j) x.2)) (if q1.1.1 = 45 then rd_adv tp n q1 else q1) |>.bind (fun x => .ok (rd_py x.1 x.2))) → Q s') → (¬ s1.1 6 = 45 → ((0 : Int32) = 0 → tw_T G l o ad h 4 mX3_rayLine (tw_qv G o ad h Q) 66 [some (.ref o), some (.int (nI N)), some (.int (b2i any)), some (.int (nI k)), some (.int 0), none, none] [] s1) ∧ (¬ (0 : Int32) = 0 → tw_cv G l o ad h 4 mX3_next [.ref o] s1 (fun s3 => tw_T G l o ad h 4 mX3_rayLine (tw_qv G o ad h Q) 66 [some (.ref o), some (.int (nI N)), some (.int (b2i any)), some (.int (nI k)), some (.int 0), none, none] [] s3))) ∧ (s1.1 6 = 45 → ((1 : Int32) = 0 → tw_T G l o ad h 4 mX3_rayLine (tw_qv G o ad h Q) 66 [some (.ref o), some (.int (nI N)), some (.int (b2i any)), some (.int (nI k)), some (.int 1), none, none] [] s1) ∧ (¬ (1 : Int32) = 0 → tw_cv G l o ad h 4 mX3_next [.ref o] s1 (fun s4 => tw_T G l o ad h 4 mX3_rayLine (tw_qv G o ad h Q) 66 [some (.ref o), some (.int (nI N)), some (.int (b2i any)), some (.int (nI k)), some (.int 1), none, none] [] s4))) := by
          intro s1 q1 hr1 hq1 hQ1
          have e45 : nI q1.1.1 = 45 ↔ q1.1.1 = 45 := nI_eq (b := 45) (by have := hr1.2.2.2.2.2.2.1.1; omega) (by omega)
          rw [hr1.2.2.2.2.2.1.2.2.1, e45]
          refine ⟨fun c => ⟨fun _ => num s1 q1 false hr1 hq1 (fun s' hs' => hQ1 s' ?_), fun c => absurd rfl c⟩, fun c => ⟨fun c => absurd c (by decide), fun _ => tw_cv.use (by decide) (t_adv ok hr1) fun s4 h4' => num s4 (rd_adv tp n q1) true h4' hq1 (fun s' hs' => hQ1 s' ?_)⟩⟩
          · simp only [if_neg c]
            exact hs'
          · simp only [if_pos c]
            exact hs'
        refine vX3_rayLine_20 ok ⟨fun c => ?_, fun _ => ⟨fun c => ⟨fun _ => ?_, fun c => absurd hr.2.1 c⟩, fun c => tw_cv.use (by decide) (t_mustComma ok (X := .ok q) hr) fun s5 h5 => ?_⟩⟩
        · rw [nI_lit 4, nI_leI (by omega) (by omega)] at c
          omega
        · have c : nI k ≤ nI 0 := c
          rw [nI_leI (by omega) (by omega)] at c
          obtain rfl : k = 0 := by omega
          exact sign s q hr hq (fun s' hs' => hQ s' (by rw [if_pos rfl]; exact hs'))
        · have c : ¬ nI k ≤ nI 0 := c
          rw [nI_leI (by omega) (by omega)] at c
          have h5 : rf_x s0 tp n s5 (rd_cm tp n q) := h5
          rw [if_neg (show ¬ k = 0 by omega)] at hQ
          cases eC : rd_cm tp n q with
          | error e =>
            rw [eC] at h5 hQ
            have h5 : rf_e s0 s5 e := h5
            exact ⟨fun c => absurd c (n0 s5 h5.2.1), fun _ => hQ s5 (rf_x.y (X := .error e) h5)⟩
          | ok q1 =>
            rw [eC] at h5 hQ
            have h5 : rf_r s0 tp n s5 q1 := h5
            exact ⟨fun _ => sign s5 q1 h5 ((cm_2 eC).trans hq) (fun s' hs' => hQ s' hs'), fun c => absurd h5.2.1 c⟩
    refine wq_C.of pn_X3 (Nat.le_of_ble_eq_true rfl) rfl (vX3_rayLine_0 ok ⟨fun _ => tw_ld_n 85 rfl (by decide) ?_, fun c => absurd hr0.2.1 c⟩)
    rw [e85]
    exact key 4 0 false (fun _ => 0) s0 s q0 (by omega) hr0 rfl (fun j hj => by omega) (fun j hj => by omega) (fun q => by cases q) (fun q => by cases q) hQ
end TW35
