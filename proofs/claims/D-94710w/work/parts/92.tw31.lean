/-! CONTRACTS of the reference: new names, the law's line, a line's first word -/
set_option maxRecDepth 100000
/-- the same, the array of what is read laid anew -/
def rf_y (s0 : tw_S) (tp : Nat → Nat) (n : Nat) (s : tw_S) (X : rd_X rd_Q) : Prop := ∃ A, rf_x (tw_sa s0 16 A) tp n s X
theorem rf_x.y {s0 s : tw_S} {tp : Nat → Nat} {n : Nat} {X : rd_X rd_Q} (h : rf_x s0 tp n s X) : rf_y s0 tp n s X := ⟨s0.2.1 16, by rw [sa_id]; exact h⟩
theorem rf_y.up {s0 s : tw_S} {tp : Nat → Nat} {n : Nat} {X : rd_X rd_Q} {A : Nat → Int32} (h : rf_y (tw_sa s0 16 A) tp n s X) : rf_y s0 tp n s X := by
  obtain ⟨B, hB⟩ := h
  rw [sa_sa] at hB
  exact ⟨B, hB⟩
/-- the array of what is read is written; all else stays -/
theorem rf_r.put {s0 s s' : tw_S} {tp : Nat → Nat} {n : Nat} {q q' : rd_Q} (hr : rf_r s0 tp n s q) (h1 : s'.1 = s.1) (h2 : ∀ k, k ≠ 16 → s'.2.1 k = s.2.1 k) (hq : q'.1 = q.1) (ht : tf (s'.2.1 16) q') (hp : pok q') : rf_r (tw_sa s0 16 (s'.2.1 16)) tp n s' q' := by
  obtain ⟨g1, g2, g3, g4, g5, g6, g7, g8, g9⟩ := hr
  refine ⟨⟨fun k a b => by rw [h1]; exact g1.1 k a b, fun k a => ?_⟩, by rw [h1]; exact g2, by rw [h1]; exact g3, by rw [h1]; exact g4, ⟨g5.1, by rw [h1]; exact g5.2.1, g5.2.2.1, by rw [h2 1 (by decide)]; exact g5.2.2.2⟩, ?_, by rw [hq]; exact g7, ht, hp⟩
  · by_cases c : k = 16
    · rw [c, sa_eq]
    · rw [sa_ne c, h2 k c]; exact g1.2 k a
  · unfold rf_k at *
    rw [h1, h2 12 (by decide), hq]
    exact g6
section TW31
variable {G : wq_G} {l : Launch} {o : Nat} {ad : Nat → Nat} {h : wq_H} {s s0 : tw_S} {tp : Nat → Nat} {n : Nat} {q : rd_Q}
theorem t_newNames (ok : tw_ok G o ad) (sc : sc_ok G h) {X : rd_X rd_Q} (hx : rf_x s0 tp n s X) (look : Bool) : wq_C G l 6 0 0 mX3_newNames [.ref o, .int (nI (if look then 50 else 51)), .int (nI (if look then 0 else 6)), .int (nI (if look then 6 else 9))] (tw_h G o ad s h) (tw_qv G o ad h fun s' => rf_y s0 tp n s' (X.bind (rd_ns tp n look (if look then 6 else 9) ((if look then 6 else 9) + 1)))) := by
  cases X with
  | error e =>
    have hx : rf_e s0 s e := hx
    refine wq_C.of pn_X3 (Nat.le_of_ble_eq_true rfl) rfl (vX3_newNames_0 ok ⟨fun _ => ?_, fun c => absurd (hx.2.1.symm.trans c) (by decide)⟩)
    exact vX3_newNames_14 ok ⟨fun _ => rf_x.y hx, fun c => absurd rfl c⟩
  | ok q =>
    have hr : rf_r s0 tp n s q := hx
    have eb : (Except.ok q : rd_X rd_Q).bind (rd_ns tp n look (if look then 6 else 9) ((if look then 6 else 9) + 1)) = rd_ns tp n look (if look then 6 else 9) ((if look then 6 else 9) + 1) q := rfl
    rw [eb]
    clear eb hx
    generalize hmost : (if look = true then 6 else 9) = most
    generalize hcnt : (if look = true then 50 else 51) = cnt'
    generalize hfirst : (if look = true then 0 else 6) = first
    have hm9 : most ≤ 9 := by rw [← hmost]; split <;> omega
    have hf6 : first + most ≤ 15 := by rw [← hmost, ← hfirst]; split <;> omega
    have hc51 : cnt' = 50 ∨ cnt' = 51 := by rw [← hcnt]; split <;> omega
    have body : ∀ m (s0 s : tw_S) (q : rd_Q) (Q : tw_S → Prop), rf_r s0 tp n s q → ((rd_row look q).length < most → ∀ (s0' s' : tw_S) (q' : rd_Q) (Q' : tw_S → Prop), rf_r s0' tp n s' q' → (rd_row look q').length = (rd_row look q).length + 1 → (∀ s'', rf_y s0' tp n s'' (rd_ns tp n look most m q') → Q' s'') → tw_T G l o ad h 6 mX3_newNames (tw_qv G o ad h Q') 14 [some (.ref o), some (.int (nI cnt')), some (.int (nI first)), some (.int (nI most)), some (.int 1), none, none] [] s') → (∀ s', rf_y s0 tp n s' (rd_ns tp n look most (m + 1) q) → Q s') → tw_T G l o ad h 6 mX3_newNames (tw_qv G o ad h Q) 14 [some (.ref o), some (.int (nI cnt')), some (.int (nI first)), some (.int (nI most)), some (.int 1), none, none] [] s := by
      intro m s0 s q Q hr ih hQ
      obtain ⟨h1, h2, h3, h4, h5, h6, h7, h8, h9⟩ := id hr
      have hrow : (rd_row look q).length ≤ most := by
        rw [← hmost]
        cases look
        · exact h9.2.2.2.2.2.1.1
        · exact h9.2.1
      have hcv : s.2.1 16 cnt' = nI (rd_row look q).length := by
        rw [← hcnt]
        cases look
        · exact h8.2.2.2.2.2.2.2.1.1
        · exact h8.2.1
      simp only [rd_ns] at hQ
      refine vX3_newNames_14 ok ⟨fun c => absurd c (by decide), fun _ => tw_cv.use (by decide) (t_mustName ok sc hr) ?_⟩
      rintro s1 ⟨m1, m2⟩
      have dead : ∀ (f : Nat) (s' : tw_S), rf_e s0 s' (f, q.1.2.1) → (∀ s', rf_y s0 tp n s' (rd_err f q) → Q s') → tw_T G l o ad h 6 mX3_newNames (tw_qv G o ad h Q) 46 [some (.ref o), some (.int (nI cnt')), some (.int (nI first)), some (.int (nI most)), none, none, none] [] s' := by
        intro f s' he hq
        exact vX3_newNames_46 ok ⟨fun _ => ⟨fun c => absurd (he.2.1.symm.trans c) (by decide), fun _ => hq s' (rf_x.y (X := rd_err f q) he)⟩, fun c => absurd (he.2.1.symm.trans c) (by decide)⟩
      by_cases cn : rd_isn q = true
      · obtain rfl := m1 cn
        rw [if_pos cn] at hQ
        have k2 : q.1.1 = 2 := by
          unfold rd_isn at cn
          rw [Bool.and_eq_true] at cn
          simpa using cn.1
        obtain ⟨w1, w2⟩ := h6.2.2.2.2 k2
        obtain ⟨t1, t2, t3⟩ := h7.2.2.2.1 k2
        refine ⟨fun c => absurd h2 c, fun _ => tw_ci.eq (by decide) (t_find ok hr k2) ?_⟩
        by_cases cc : (q.2.2.1 ++ q.2.2.2.1).contains q.1.2.2.2.1 = true
        · rw [if_pos cc] at hQ
          have hnn : ¬ rd_fn q < 0 := by
            unfold rd_fn
            have p9 : q.2.2.2.1.length ≤ 9 := h9.2.2.2.2.2.1.1
            have p6 := h9.2.1
            cases eL : q.2.2.1.findIdx? (fun w => decide (w = q.1.2.2.2.1)) with
            | some k =>
              have hk := (List.findIdx?_eq_some_iff_getElem.mp eL).1
              exact nI_pos (by omega)
            | none =>
              simp only
              cases eP : q.2.2.2.1.findIdx? (fun w => decide (w = q.1.2.2.2.1)) with
              | some k =>
                have hk := (List.findIdx?_eq_some_iff_getElem.mp eP).1
                exact nI_pos (by omega)
              | none =>
                rw [List.findIdx?_eq_none_iff] at eL eP
                rw [List.contains_iff_mem, List.mem_append] at cc
                rcases cc with cc | cc
                · have := eL _ cc; simp at this
                · have := eP _ cc; simp at this
          refine ⟨fun c => absurd c hnn, fun _ => tw_cv.use (by decide) (t_wrong ok hr 3) fun s' hs' => dead 3 s' hs' hQ⟩
        · rw [if_neg cc] at hQ
          have hneg : rd_fn q = -1 := by
            unfold rd_fn
            rw [List.contains_iff_mem, List.mem_append, not_or] at cc
            rw [fi_none (fun j e => cc.1 (List.mem_of_getElem? e)), fi_none (fun j e => cc.2 (List.mem_of_getElem? e))]
          rw [hneg]
          refine ⟨fun _ => ?_, fun c => absurd (by decide) c⟩
          have ecnt : cnt' < tw_len 16 := by show cnt' < 346; omega
          have em : nI (rd_row look q).length = nI most ↔ (rd_row look q).length = most := nI_eq (by omega) (by omega)
          -- the name is laid down
          have go : (rd_row look q).length < most → tw_ld s1 16 (nI cnt') (fun y3 => tw_T G l o ad h 6 mX3_newNames (tw_qv G o ad h Q) 93 [some (.ref o), some (.int (nI cnt')), some (.int (nI first)), some (.int (nI most)), none, some (.int (nI first + y3)), some (.int 0)] [] s1) := by
            intro hlt
            have hQ := fun s' (hs : rf_y s0 tp n s' _) => hQ s' (by rw [if_neg (Nat.ne_of_lt hlt)]; exact hs)
            refine tw_ld_n cnt' rfl ecnt ?_
            rw [hcv, nI_add]
            generalize hf : first + (rd_row look q).length = f
            have hpk : pok (rd_put look q) := pok_put h9 h7 k2 (by simpa using cc) (by rw [hmost]; exact hlt)
            have lay : ∀ m j (s' : tw_S), j + m = q.1.2.2.2.1.length → s'.1 = s1.1 → (∀ k, k ≠ 16 → s'.2.1 k = s1.2.1 k) → (∀ p, (p < 226 + 8 * f ∨ 226 + 8 * f + 8 ≤ p) → s'.2.1 16 p = s1.2.1 16 p) → (∀ k x, k < j → q.1.2.2.2.1[k]? = some x → s'.2.1 16 (226 + 8 * f + k) = nI x) → tw_T G l o ad h 6 mX3_newNames (tw_qv G o ad h Q) 93 [some (.ref o), some (.int (nI cnt')), some (.int (nI first)), some (.int (nI most)), none, some (.int (nI f)), some (.int (nI j))] [] s' := by
              intro m
              induction m with
              | zero =>
                intro j s' hj e1 e2 e3 e4
                obtain rfl : j = q.1.2.2.2.1.length := by omega
                have w1' : s'.1 8 = nI q.1.2.2.2.1.length := by rw [e1]; exact w1
                refine vX3_newNames_93 ok ⟨fun _ => ?_, fun c => ?_⟩
                · refine tw_st_n (211 + f) (by rw [nI_lit 211, nI_add]) (by show _ < 346; omega) (tw_ld_n cnt' rfl ecnt (tw_st_n cnt' rfl ecnt ?_))
                  rw [pa_ne (by omega), e3 cnt' (by omega), hcv, nI_1, w1']
                  have hr2 : rf_r (tw_sa s0 16 ((tw_pa (tw_pa s' 16 (211 + f) (nI q.1.2.2.2.1.length)) 16 cnt' (nI ((rd_row look q).length + 1))).2.1 16)) tp n (tw_pa (tw_pa s' 16 (211 + f) (nI q.1.2.2.2.1.length)) 16 cnt' (nI ((rd_row look q).length + 1))) (rd_put look q) := by
                    refine hr.put e1 (fun k hk => by rw [pa_no hk, pa_no hk]; exact e2 k hk) rfl ?_ hpk
                    refine tf_put (a := s1.2.1 16) (f := f) rfl h9 h8 t2 (by rw [hmost]; exact hlt) (by rw [← hf, ← hfirst]) (fun p hu c1 c2 => ?_) ?_ ?_ (fun k x hx => ?_)
                    · rw [hcnt] at c2
                      rw [pa_ne c2, pa_ne c1]
                      refine e3 p ?_
                      have p9 : q.2.2.2.1.length ≤ 9 := h9.2.2.2.2.2.1.1
                      have s8 : q.2.2.2.2.1.length ≤ 8 := h9.2.2.2.2.1.1
                      have b8 : q.2.2.2.2.2.1.length ≤ 8 := h9.2.2.2.2.2.1.2.1
                      have r18 : q.2.2.2.2.2.2.1.length ≤ 18 := h9.2.2.2.2.2.1.2.2.2.1
                      have u4 : q.2.2.2.2.2.2.2.length ≤ 4 := h9.2.2.2.2.2.1.2.2.2.2.2.1
                      have l6 := h9.2.1
                      unfold used at hu
                      cases look with
                      | true =>
                        have hff : f = 0 + q.2.2.1.length := by rw [← hf, ← hfirst]; rfl
                        have hl6 : q.2.2.1.length < 6 := by have : q.2.2.1.length < most := hlt; rw [← hmost] at this; exact this
                        omega
                      | false =>
                        have hff : f = 6 + q.2.2.2.1.length := by rw [← hf, ← hfirst]; rfl
                        omega
                    · rw [pa_ne (by omega), pa_eq]
                    · rw [hcnt, pa_eq]
                    · have hk := (List.getElem?_eq_some_iff.mp hx).1
                      rw [pa_ne (by omega), pa_ne (by omega)]
                      exact e4 k x hk hx
                  refine tw_cv.use (by decide) (t_adv ok hr2) fun s4 hs4 => tw_ci.use (by decide) (t_comma ok hs4) ?_
                  rintro r s5 ⟨rfl, g1, g2⟩
                  have kk : (rd_adv tp n (rd_put look q)).1.1 = (rd_adv tp n q).1.1 := rfl
                  by_cases c44 : (rd_adv tp n q).1.1 = 44
                  · have hb : decide ((rd_adv tp n (rd_put look q)).1.1 = 44) = true := decide_eq_true c44
                    rw [hb]
                    refine ih hlt _ s5 _ Q (g1 c44) ?_ (fun s'' hs'' => hQ s'' (by rw [if_pos c44]; exact hs''.up))
                    show (rd_row look (rd_put look q)).length = _
                    cases look
                    · show (q.2.2.2.1 ++ [_]).length = q.2.2.2.1.length + 1
                      simp
                    · show (q.2.2.1 ++ [_]).length = q.2.2.1.length + 1
                      simp
                  · have hb : decide ((rd_adv tp n (rd_put look q)).1.1 = 44) = false := decide_eq_false c44
                    rw [hb]
                    obtain rfl := g2 c44
                    exact vX3_newNames_14 ok ⟨fun _ => hQ s5 (by rw [if_neg c44]; exact (rf_x.y (X := .ok _) hs4).up), fun c => absurd rfl c⟩
                · rw [w1'] at c
                  exact absurd (Int32.le_refl _) c
              | succ m ih2 =>
                intro j s' hj e1 e2 e3 e4
                have w1' : s'.1 8 = nI q.1.2.2.2.1.length := by rw [e1]; exact w1
                have hjl : j < q.1.2.2.2.1.length := by omega
                refine vX3_newNames_93 ok ⟨fun c => ?_, fun _ => tw_ld_n j rfl (by show _ < 8; omega) (tw_st_n (226 + 8 * f + j) (by rw [nI_lit 226, nI_lit 8, nI_mul, nI_add, nI_add]) (by show _ < 346; omega) ?_)⟩
                · rw [w1', nI_leI (by omega) (by omega)] at c
                  omega
                · rw [e2 12 (by decide), w2 j _ (List.getElem?_eq_getElem hjl), nI_1]
                  refine ih2 (j + 1) _ (by omega) e1 (fun k hk => by rw [pa_no hk]; exact e2 k hk) (fun p hp => by rw [pa_ne (by omega)]; exact e3 p hp) (fun k x hk hx => ?_)
                  by_cases e : k = j
                  · subst e
                    rw [List.getElem?_eq_getElem hjl, Option.some.injEq] at hx
                    rw [pa_eq, hx]
                  · rw [pa_ne (by omega)]; exact e4 k x (by omega) hx
            exact lay q.1.2.2.2.1.length 0 s1 (by omega) rfl (fun _ _ => rfl) (fun _ _ => rfl) (fun k x hk => by omega)
          refine vX3_newNames_46 ok ⟨fun c => absurd h2 c, fun _ => tw_ld_n cnt' rfl ecnt ?_⟩
          rw [hcv, em]
          refine ⟨fun c => ⟨fun _ => go (by omega), fun c => absurd h2 c⟩, fun c => tw_cv.use (by decide) (t_wrong ok hr 5) fun s' hs' => ⟨fun c => absurd (hs'.2.1.symm.trans c) (by decide), fun _ => hQ s' (by rw [if_pos c]; exact rf_x.y (X := rd_err 5 q) hs')⟩⟩
      · simp only [Bool.not_eq_true] at cn
        have hs := m2 cn
        rw [if_neg (by rw [cn]; decide)] at hQ
        exact ⟨fun _ => dead 1 s1 hs hQ, fun c => absurd (hs.2.1.symm.trans c) (by decide)⟩
    have key : ∀ m (s0 s : tw_S) (q : rd_Q) (Q : tw_S → Prop), rf_r s0 tp n s q → most ≤ (rd_row look q).length + m → (∀ s', rf_y s0 tp n s' (rd_ns tp n look most (m + 1) q) → Q s') → tw_T G l o ad h 6 mX3_newNames (tw_qv G o ad h Q) 14 [some (.ref o), some (.int (nI cnt')), some (.int (nI first)), some (.int (nI most)), some (.int 1), none, none] [] s := by
      intro m
      induction m with
      | zero => exact fun s0 s q Q hr hf hQ => body 0 s0 s q Q hr (fun hlt => by omega) hQ
      | succ m ih => exact fun s0 s q Q hr hf hQ => body (m + 1) s0 s q Q hr (fun _ s0' s' q' Q' hr' he hQ' => ih s0' s' q' Q' hr' (by omega) hQ') hQ
    refine wq_C.of pn_X3 (Nat.le_of_ble_eq_true rfl) rfl (vX3_newNames_0 ok ⟨fun c => absurd hr.2.1 c, fun _ => ?_⟩)
    exact key most s0 s q _ hr (by omega) (fun s' hs' => hs')
/-- tries set -/
theorem pok_law {v : Nat} (hp : pok q) (h0 : q.2.1 = 0) (hv : 1 ≤ v ∧ v ≤ 60) : pok (q.1, v, q.2.2) := by
  obtain ⟨p1, p2, p3, p4, p5, p6, p7⟩ := hp
  have e := p4 h0
  refine ⟨hv.2, p2, p3, fun q => by have : v = 0 := q; omega, ?_, p6, p7⟩
  show zs_ok _ v q.2.2.2.2.1
  rw [e]
  exact ⟨Nat.zero_le _, fun x hx => by cases hx⟩
theorem no_range {lo hi : Nat} {x : Nat × rd_Q} (h : rd_no tp n lo hi q = .ok x) : lo ≤ x.1 ∧ x.1 ≤ hi ∧ x.2 = rd_adv tp n q := by
  unfold rd_no at h
  split at h
  · split at h
    · rename_i c; cases h; exact ⟨c.1, c.2, rfl⟩
    · cases h
  · cases h
theorem t_lawLine (ok : tw_ok G o ad) (sc : sc_ok G h) {X : rd_X rd_Q} (hx : rf_x s0 tp n s X) (h0 : ∀ q, X = .ok q → q.2.1 = 0) : wq_C G l 7 0 0 mX3_lawLine [.ref o] (tw_h G o ad s h) (tw_qv G o ad h fun s' => rf_y s0 tp n s' (X.bind (rd_law tp n))) := by
  refine wq_C.of pn_X3 (Nat.le_of_ble_eq_true rfl) rfl (vX3_lawLine_0 ok (tw_cv.use (by decide) (t_pass ok sc hx (i := 17) (w := w_of) (by decide)) fun s1 h1 => tw_ci.use (by decide) (t_number ok h1 (lo := 1) (hi := 60) (by decide) (by decide)) fun y s2 h2 => ?_))
  have eb : X.bind (rd_law tp n) = ((X.bind (rd_ps tp n w_of)).bind (rd_no tp n 1 60)).bind (fun x => .ok (x.2.1, x.1, x.2.2.2)) := by
    cases X with
    | error e => rfl
    | ok q =>
      show rd_law tp n q = _
      unfold rd_law
      show _ = (((rd_ps tp n w_of q)).bind (rd_no tp n 1 60)).bind (fun x => .ok (x.2.1, x.1, x.2.2.2))
      cases rd_ps tp n w_of q <;> rfl
  rw [eb]
  cases eV : (X.bind (rd_ps tp n w_of)).bind (rd_no tp n 1 60) with
  | error e =>
    rw [eV] at h2
    have h2 : rf_e s0 s2 e := h2
    exact ⟨fun _ => rf_x.y (X := .error e) h2, fun c => absurd (h2.2.1.symm.trans c) (by decide)⟩
  | ok x =>
    rw [eV] at h2
    obtain ⟨rfl, hr⟩ : y = nI x.1 ∧ rf_r s0 tp n s2 x.2 := h2
    refine ⟨fun c => absurd hr.2.1 c, fun _ => tw_st_n 49 rfl (by decide) ?_⟩
    obtain ⟨q1, e1, e2⟩ := ex_bind eV
    obtain ⟨q0, e3, e4⟩ := ex_bind e1
    have q0of := h0 q0 e3
    obtain ⟨r1, r2, r3⟩ := no_range e2
    have ps2 : q1.2 = q0.2 := by
      unfold rd_ps at e4
      split at e4
      · cases e4; rfl
      · cases e4
    have x0 : x.2.2.1 = 0 := by rw [r3]; show q1.2.1 = 0; rw [ps2]; exact q0of
    refine ⟨(tw_pa s2 16 49 (nI x.1)).2.1 16, ?_⟩
    show rf_r (tw_sa s0 16 ((tw_pa s2 16 49 (nI x.1)).2.1 16)) tp n (tw_pa s2 16 49 (nI x.1)) (x.2.1, x.1, x.2.2.2)
    have hp := hr.2.2.2.2.2.2.2.2
    have hp2 := pok_law hp x0 ⟨r1, r2⟩
    refine hr.put rfl (fun k hk => pa_no hk) rfl ?_ hp2
    obtain ⟨g1, g2, g3, g4, g5, g6, g7, g8, g9⟩ := hr.2.2.2.2.2.2.2.1
    have hg : tf (s2.2.1 16) x.2 := ⟨g1, g2, g3, g4, g5, g6, g7, g8, g9⟩
    have ts : tf (fun p => if p = 49 then s2.2.1 16 49 else (tw_pa s2 16 49 (nI x.1)).2.1 16 p) x.2 := by
      refine tf_cong hp hg fun p _ => ?_
      by_cases c : p = 49
      · rw [if_pos c, c]
      · rw [if_neg c, pa_ne c]
    have fe : ∀ p, p ≠ 49 → (tw_pa s2 16 49 (nI x.1)).2.1 16 p = s2.2.1 16 p := fun p hp => pa_ne hp
    have s8 : x.2.2.2.2.2.1.length ≤ 8 := hp.2.2.2.2.1.1
    refine ⟨pa_eq, by rw [fe 50 (by decide)]; exact g2, fun i w hw => ?_, fun i w hw => ?_, fun i a b => by rw [fe _ (by omega)]; exact g5 i a b, fun i a b => by rw [fe _ (by omega)]; exact g6 i a b, ⟨by rw [fe 0 (by decide)]; exact g7.1, fun k e he => ?_⟩, ?_, fun m a b => by rw [fe _ (by omega)]; exact g9 m a b⟩
    · exact ⟨by rw [fe _ (by omega)]; exact (g3 i w hw).1, fun k y hy => by rw [fe _ (by omega)]; exact (g3 i w hw).2 k y hy⟩
    · exact ⟨by rw [fe _ (by omega)]; exact (g4 i w hw).1, fun k y hy => by rw [fe _ (by omega)]; exact (g4 i w hw).2 k y hy⟩
    · have hk : k < x.2.2.2.2.2.1.length := (List.getElem?_eq_some_iff.mp he).1
      have ho := zs_out_le e
      exact ⟨by rw [fe _ (by omega)]; exact (g7.2 k e he).1, by rw [fe _ (by omega)]; exact (g7.2 k e he).2.1, fun o hoo => by rw [fe _ (by omega)]; exact (g7.2 k e he).2.2 o hoo⟩
    · obtain ⟨y1, y2, y3, y4, y5, y6, y7⟩ := g8
      exact ⟨by rw [fe 51 (by decide)]; exact y1, by rw [fe 52 (by decide)]; exact y2, fun m hm => ⟨fun k hk => by rw [fe _ (by omega)]; exact (y3 m hm).1 k hk, by rw [fe _ (by omega)]; exact (y3 m hm).2⟩, by rw [fe 85 (by decide)]; exact y4, fun m hm k hk => by rw [fe _ (by omega)]; exact y5 m hm k hk, by rw [fe 158 (by decide)]; exact y6, fun u hu => ⟨by rw [fe _ (by omega)]; exact (y7 u hu).1, fun m z hz => by rw [fe _ (by omega), fe _ (by omega)]; exact (y7 u hu).2 m z hz⟩⟩
theorem t_begins (ok : tw_ok G o ad) (sc : sc_ok G h) (hr : rf_r s0 tp n s q) {i : Nat} {w : List Nat} (hw : (i, w) ∈ sc_ws) (can : Bool) (f : Nat) : wq_C G l 5 0 0 mX3_begins [.ref o, .ref (G.2.2.2.2 i), .int (b2i can), .int (nI f)] (tw_h G o ad s h) (tw_qi G o ad h fun r s' => r = b2i (rd_isw q w) ∧ (rd_isw q w = true → rf_x s0 tp n s' (rd_bg tp n can f q)) ∧ (rd_isw q w = false → s' = s)) := by
  refine wq_C.of pn_X3 (Nat.le_of_ble_eq_true rfl) rfl (vX3_begins_0 ok (tw_ci.eq (by decide) (t_isWord ok sc hr hw) ?_))
  rw [b2i_0, b2i_0]
  refine ⟨fun c => ?_, fun c => ⟨by rw [c]; rfl, fun q => absurd (q.symm.trans c) (by decide), fun _ => rfl⟩⟩
  simp only [Bool.not_eq_false] at c
  rw [c]
  refine ⟨fun c2 => ⟨fun c3 => absurd hr.2.1 c3, fun _ => tw_cv.use (by decide) (t_adv ok hr) fun s' hs' => ⟨rfl, fun _ => ?_, fun q => absurd q (by decide)⟩⟩, fun c2 => tw_cv.use (by decide) (t_wrong ok hr f) fun s' hs' => ⟨fun _ => ⟨rfl, fun _ => ?_, fun q => absurd q (by decide)⟩, fun c3 => absurd (hs'.2.1.symm.trans c3) (by decide)⟩⟩
  · simp only [Bool.not_eq_false] at c2
    unfold rd_bg; rw [if_pos c2]; exact hs'
  · unfold rd_bg; rw [if_neg (by rw [c2]; decide)]; exact hs'
end TW31
