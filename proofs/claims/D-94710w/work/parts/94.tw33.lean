/-! CONTRACTS of the reference: a set's line, a line's line -/
set_option maxRecDepth 100000
section TW33
variable {G : wq_G} {l : Launch} {o : Nat} {ad : Nat → Nat} {h : wq_H} {s s0 : tw_S} {tp : Nat → Nat} {n : Nat} {q : rd_Q}
theorem ps_2 {w : List Nat} {q' : rd_Q} (h : rd_ps tp n w q = .ok q') : q'.2 = q.2 := by
  unfold rd_ps at h
  split at h
  · cases h; rfl
  · cases h
theorem cm_2 {q' : rd_Q} (h : rd_cm tp n q = .ok q') : q'.2 = q.2 := by
  unfold rd_cm at h
  split at h
  · cases h; rfl
  · cases h
theorem pn_2 {look : Bool} {but : Nat} {x : Nat × rd_Q} (h : rd_pn tp n look but q = .ok x) : x.2 = rd_adv tp n q ∧ x.1 < (if look then q.2.2.1 else q.2.2.2.1).length ∧ but.testBit x.1 = false := by
  obtain ⟨k, h1, h2⟩ := ex_bind h
  cases h2
  exact ⟨rfl, nm_lt h1⟩
theorem t_setLine (ok : tw_ok G o ad) (sc : sc_ok G h) (hr : rf_r s0 tp n s q) : wq_C G l 8 0 0 mX3_setLine [.ref o] (tw_h G o ad s h) (tw_qv G o ad h fun s' => rf_y s0 tp n s' (rd_set tp n q)) := by
  obtain ⟨h1, h2, h3, h4, h5, h6, h7, h8, h9⟩ := id hr
  generalize hQ : (fun s' => rf_y s0 tp n s' (rd_set tp n q)) = Q
  have hQ : ∀ s', rf_y s0 tp n s' (rd_set tp n q) → Q s' := fun s' hs => by subst hQ; exact hs
  have n0 : ∀ s : tw_S, s.1 13 = 1 → ¬ s.1 13 = 0 := fun s h1 c => absurd (h1.symm.trans c) (by decide)
  have s8 : q.2.2.2.2.1.length ≤ 8 := h9.2.2.2.2.1.1
  have e0 : s.2.1 16 0 = nI q.2.2.2.2.1.length := (tf_iff.mp h8).2.1.1
  have e49 : s.2.1 16 49 = nI q.2.1 := h8.1
  have e8 : nI q.2.2.2.2.1.length = 8 ↔ q.2.2.2.2.1.length = 8 := nI_eq (b := 8) (by omega) (by omega)
  have eof : nI q.2.1 = 0 ↔ q.2.1 = 0 := nI_eq (b := 0) (by have := h9.1; omega) (by omega)
  have dead40 : ∀ (s' : tw_S) (f : Nat), rf_e s0 s' (f, q.1.2.1) → rd_set tp n q = rd_err f q → tw_T G l o ad h 8 mX3_setLine (tw_qv G o ad h Q) 40 [some (.ref o), none, none, none, none, none, none, none] [] s' := by
    intro s' f he hs
    exact vX3_setLine_40 ok ⟨fun c => absurd c (n0 s' he.2.1), fun _ => hQ s' (by rw [hs]; exact rf_x.y (X := rd_err f q) he)⟩
  refine wq_C.of pn_X3 (Nat.le_of_ble_eq_true rfl) rfl (vX3_setLine_0 ok (tw_ld_n 0 rfl (by decide) ?_))
  rw [e0, e8]
  refine ⟨fun c8 => tw_ld_n 49 rfl (by decide) ?_, fun c8 => tw_cv.use (by decide) (t_wrong ok hr 5) fun s4 he => tw_ld_n 49 rfl (by decide) ?_⟩
  · rw [e49, eof]
    refine ⟨fun c0 => ?_, fun c0 => tw_cv.use (by decide) (t_wrong ok hr 6) fun s3 he => dead40 s3 6 he (by unfold rd_set; rw [if_neg c8, if_pos c0])⟩
    have hQ : ∀ s', rf_y s0 tp n s' ((rd_pn tp n true 0 (rd_adv tp n q)).bind (fun x => if x.2.1.1 = 44 then (rd_pn tp n true (2 ^ x.1) (rd_adv tp n x.2)).bind (fun y => rd_s2 tp n x.1 (some y.1) y.2) else rd_s2 tp n x.1 none x.2)) → Q s' := fun s' hs => hQ s' (by unfold rd_set; rw [if_neg c8, if_neg c0]; exact hs)
    generalize hS : q.2.2.2.2.1.length = S at *
    have hS8 : S < 8 := by omega
    have i1 : (1 : Int32) + nI S = nI (1 + S) := by rw [nI_lit 1, nI_add]
    have i9 : (9 : Int32) + nI S = nI (9 + S) := by rw [nI_lit 9, nI_add]
    -- behind a fault the rows of numbers are left at once
    have dead142 : ∀ (s0 s' : tw_S) (e : Nat × Nat) (many : Nat) (x4 : Int32), 0 < many → many < 100 → rf_e s0 s' e → (∀ s', rf_y s0 tp n s' (.error e) → Q s') → tw_T G l o ad h 8 mX3_setLine (tw_qv G o ad h Q) 142 [some (.ref o), some (.int (nI S)), none, some (.int (nI many)), some (.int x4), some (.int 0), none, none] [] s' := by
      intro s0 s' e many x4 hm hm2 he hQ
      have fin : Q s' := hQ s' (rf_x.y (X := .error e) he)
      refine vX3_setLine_142 ok ⟨fun c => ?_, fun _ => ⟨fun _ => ⟨fun c => absurd c (n0 s' he.2.1), fun _ => fin⟩, fun c => absurd (by decide) c⟩⟩
      have c : nI many ≤ nI 0 := c
      rw [nI_leI (by omega) (by omega)] at c
      omega
    -- 'tells' and what comes behind it
    have tells : ∀ (s1 s2 : tw_S) (q2 : rd_Q) (a : Nat) (b : Option Nat), rf_r s1 tp n s2 q2 → q2.2 = q.2 → a < q.2.2.1.length → (∀ x, b = some x → x < q.2.2.1.length ∧ x ≠ a) → s2.2.1 16 (1 + S) = nI a → s2.2.1 16 (9 + S) = ta_sec b → (∀ s', rf_y s1 tp n s' (rd_s2 tp n a b q2) → Q s') → tw_cv G l o ad h 8 mX3_pass [.ref o, .ref (G.2.2.2.2 22)] s2 (fun s9 => tw_ld s9 16 (9 + nI S) (fun y10 => (¬ y10 = -2 → tw_T G l o ad h 8 mX3_setLine (tw_qv G o ad h Q) 142 [some (.ref o), some (.int (nI S)), none, some (.int 4), some (.int 0), some (.int 0), none, none] [] s9) ∧ (y10 = -2 → tw_T G l o ad h 8 mX3_setLine (tw_qv G o ad h Q) 142 [some (.ref o), some (.int (nI S)), none, some (.int 2), some (.int 0), some (.int 0), none, none] [] s9))) := by
      intro s1 s2 q2 a b hr2 hq2 ha hb g1 g9 hQ2
      refine tw_cv.use (by decide) (t_pass ok sc (X := .ok q2) hr2 (i := 22) (w := w_tells) (by decide)) fun s9 h9' => tw_ld_n _ i9 (by show _ < 346; omega) ?_
      have h9' : rf_x s1 tp n s9 (rd_ps tp n w_tells q2) := h9'
      cases eP : rd_ps tp n w_tells q2 with
      | error e =>
        rw [eP] at h9'
        have h9' : rf_e s1 s9 e := h9'
        have hQe : ∀ s', rf_y s1 tp n s' (.error e) → Q s' := fun s' hs => hQ2 s' (by unfold rd_s2; rw [eP]; exact hs)
        exact ⟨fun _ => dead142 s1 s9 e 4 0 (by omega) (by omega) h9' hQe, fun _ => dead142 s1 s9 e 2 0 (by omega) (by omega) h9' hQe⟩
      | ok q3 =>
        rw [eP] at h9'
        have h9' : rf_r s1 tp n s9 q3 := h9'
        have hq3 : q3.2 = q.2 := (ps_2 eP).trans hq2
        have e16 : s9.2.1 16 = s2.2.1 16 := h9'.a16.trans hr2.a16.symm
        rw [e16, g9]
        have sec : ta_sec b = -2 ↔ b = none := ta_sec_none (fun x hx => by have := (hb x hx).1; have := h9.2.1; omega)
        rw [sec]
        have go : ∀ many, many = (if b = none then 2 else 4) → tw_T G l o ad h 8 mX3_setLine (tw_qv G o ad h Q) 142 [some (.ref o), some (.int (nI S)), none, some (.int (nI many)), some (.int 0), some (.int 0), none, none] [] s9 := by
          intro many hmany
          refine t_sets ok (a := a) (b := b) hmany hS8 many 0 0 (fun _ => 0) s1 s9 q3 Q (by omega) h9' (by rw [hq3]; exact hS) (by rw [hq3]; exact c0) (by rw [hq3]; exact ha) (by rw [hq3]; exact hb) (by rw [e16]; exact g1) (by rw [e16]; exact g9) (fun j hj => by omega) rfl (by omega) (fun e => by rw [hmany] at e; split at e <;> omega) (fun s' hs' => hQ2 s' ?_)
          unfold rd_s2
          rw [eP, ← hmany]
          exact hs'
        exact ⟨fun c => go 4 (by rw [if_neg c]), fun c => go 2 (by rw [if_pos c])⟩
    refine vX3_setLine_40 ok ⟨fun _ => tw_cv.use (by decide) (t_adv ok hr) fun s1 hr1 => tw_ld_n 0 rfl (by decide) ?_, fun c => absurd h2 c⟩
    have e0' : s1.2.1 16 0 = nI S := by rw [hr1.a16, ← hr.a16]; exact e0
    rw [e0']
    refine tw_ci.use (by decide) (t_passed ok sc (X := .ok (rd_adv tp n q)) hr1 true (but := 0) (by decide)) fun y4 s3 hv => ?_
    have hv : rf_v s0 tp n y4 s3 (rd_pn tp n true 0 (rd_adv tp n q)) := hv
    refine tw_st_n _ i1 (by show _ < 346; omega) (tw_st_n _ i9 (by show _ < 346; omega) ?_)
    cases eV : rd_pn tp n true 0 (rd_adv tp n q) with
    | error e =>
      rw [eV] at hv hQ
      have hv : rf_e s0 s3 e := hv
      have hv2 := (hv.pa (p := 1 + S) (x := y4)).pa (p := 9 + S) (x := -2)
      have hQe : ∀ s', rf_y (tw_pa (tw_pa s0 16 (1 + S) y4) 16 (9 + S) (-2)) tp n s' (.error e) → Q s' := fun s' hs => hQ s' hs.pa.pa
      refine tw_ci.eq (by decide) (t_comma_e ok hv2.2.1) ⟨fun _ => tw_cv.use (by decide) (t_pass (tp := tp) (n := n) ok sc (X := .error e) hv2 (i := 22) (w := w_tells) (by decide)) fun s9 h9' => tw_ld_n _ i9 (by show _ < 346; omega) ?_, fun c => absurd rfl c⟩
      have h9' : rf_e _ s9 e := h9'
      exact ⟨fun _ => dead142 _ s9 e 4 0 (by omega) (by omega) h9' hQe, fun _ => dead142 _ s9 e 2 0 (by omega) (by omega) h9' hQe⟩
    | ok x =>
      rw [eV] at hv hQ
      obtain ⟨rfl, hr3⟩ : y4 = nI x.1 ∧ rf_r s0 tp n s3 x.2 := hv
      obtain ⟨hx2, hxl, -⟩ := pn_2 eV
      have hxq : x.2.2 = q.2 := by rw [hx2]; rfl
      have hxl : x.1 < q.2.2.1.length := hxl
      have hQ : ∀ s', rf_y s0 tp n s' (if x.2.1.1 = 44 then (rd_pn tp n true (2 ^ x.1) (rd_adv tp n x.2)).bind (fun y => rd_s2 tp n x.1 (some y.1) y.2) else rd_s2 tp n x.1 none x.2) → Q s' := hQ
      have xs : x.2.2.2.2.2.1.length = S := by rw [hxq]; exact hS
      have nu : ∀ q' : rd_Q, q'.2 = q.2 → ¬ used q' (1 + S) ∧ ¬ used q' (9 + S) := by
        intro q' hq'
        unfold used
        have : q'.2.2.2.2.1.length = S := by rw [hq']; exact hS
        exact ⟨by omega, by omega⟩
      have hr4 := (hr3.free (nu x.2 hxq).1 (nI x.1)).free (nu x.2 hxq).2 (-2)
      refine tw_ci.use (by decide) (t_comma ok hr4) ?_
      rintro r s7 ⟨rfl, k1, k2⟩
      rw [b2i_0]
      refine ⟨fun c => ?_, fun c => ?_⟩
      · simp only [decide_eq_false_iff_not] at c
        obtain rfl := k2 c
        refine tells _ _ x.2 x.1 none hr4 hxq hxl (fun y hy => by cases hy) ?_ ?_ (fun s' hs' => hQ s' (by rw [if_neg c]; exact hs'.pa.pa))
        · rw [pa_ne (by omega), pa_eq]
        · rw [pa_eq]; rfl
      · simp only [decide_eq_false_iff_not, Decidable.not_not] at c
        have hr7 := k1 c
        rw [if_pos c] at hQ
        have hx6 := h9.2.1
        rw [nI_shl (by omega)]
        have p31 : 2 ^ x.1 < 2 ^ 31 := Nat.pow_lt_pow_right (by omega) (by omega)
        refine tw_ci.use (by decide) (t_passed ok sc (X := .ok (rd_adv tp n x.2)) hr7 true (but := 2 ^ x.1) p31) fun y12 s11 hv2 => ?_
        have hv2 : rf_v _ tp n y12 s11 (rd_pn tp n true (2 ^ x.1) (rd_adv tp n x.2)) := hv2
        refine tw_st_n _ i9 (by show _ < 346; omega) ?_
        cases eW : rd_pn tp n true (2 ^ x.1) (rd_adv tp n x.2) with
        | error e =>
          rw [eW] at hv2 hQ
          have hv2 : rf_e _ s11 e := hv2
          have hv3 := hv2.pa (p := 9 + S) (x := y12)
          have hQe : ∀ s', rf_y (tw_pa (tw_pa (tw_pa s0 16 (1 + S) (nI x.1)) 16 (9 + S) (-2)) 16 (9 + S) y12) tp n s' (.error e) → Q s' := fun s' hs => hQ s' hs.pa.pa.pa
          refine tw_cv.use (by decide) (t_pass (tp := tp) (n := n) ok sc (X := .error e) hv3 (i := 22) (w := w_tells) (by decide)) fun s14 h14 => tw_ld_n _ i9 (by show _ < 346; omega) ?_
          have h14 : rf_e _ s14 e := h14
          exact ⟨fun _ => dead142 _ s14 e 4 0 (by omega) (by omega) h14 hQe, fun _ => dead142 _ s14 e 2 0 (by omega) (by omega) h14 hQe⟩
        | ok y =>
          rw [eW] at hv2 hQ
          obtain ⟨rfl, hr8⟩ : y12 = nI y.1 ∧ rf_r _ tp n s11 y.2 := hv2
          obtain ⟨hy2, hyl, hyb⟩ := pn_2 eW
          have hyq : y.2.2 = q.2 := by rw [hy2]; exact hxq
          have hyl : y.1 < q.2.2.1.length := by
            have : y.1 < x.2.2.2.1.length := hyl
            rw [hxq] at this; exact this
          have hne : y.1 ≠ x.1 := by
            intro e
            rw [e, Nat.testBit_two_pow_self] at hyb
            cases hyb
          have hr9 := hr8.free (nu y.2 hyq).2 (nI y.1)
          refine tells _ _ y.2 x.1 (some y.1) hr9 hyq hxl (fun z hz => by cases hz; exact ⟨hyl, hne⟩) ?_ ?_ (fun s' hs' => hQ s' hs'.pa.pa.pa)
          · rw [pa_ne (by omega), hr8.a16, pa_ne (by omega), pa_eq]
          · rw [pa_eq]; rfl
  · have e49' : s4.2.1 16 49 = nI q.2.1 := by rw [he.a16, ← hr.a16]; exact e49
    rw [e49', eof]
    have hs : rd_set tp n q = rd_err 5 q := by unfold rd_set; rw [if_pos c8]
    refine ⟨fun _ => dead40 s4 5 he hs, fun _ => tw_cv.use (by decide) (t_wrong_e ok he.2.1 _ _) fun s6 h6 => ?_⟩
    obtain rfl := h6
    exact dead40 s6 5 he hs
end TW33
