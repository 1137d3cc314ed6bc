/-! CONTRACTS of the reference: a line's line -/
set_option maxRecDepth 100000
def rd_pl (a b c d : Nat) (q : rd_Q) : rd_Q := (q.1, q.2.1, q.2.2.1, q.2.2.2.1, q.2.2.2.2.1, q.2.2.2.2.2.1 ++ [(a, b, c, d)], q.2.2.2.2.2.2)
section TW34
variable {G : wq_G} {l : Launch} {o : Nat} {ad : Nat → Nat} {h : wq_H} {s s0 : tw_S} {tp : Nat → Nat} {n : Nat} {q : rd_Q}
theorem pok_line {a b c d : Nat} (hp : pok q) (h8 : q.2.2.2.2.2.1.length < 8) (ha : a < q.2.2.2.1.length) (hb : b < q.2.2.2.1.length) (hc : c < q.2.2.2.1.length) (hab : a ≠ b) (hac : a ≠ c) (hbc : b ≠ c) (hd : d ≤ 1) : pok (rd_pl a b c d q) := by
  obtain ⟨p1, p2, p3, p4, p5, ⟨q1, q2, q3, q4⟩, p7⟩ := hp
  refine ⟨p1, p2, p3, p4, p5, ⟨q1, ?_, fun x hx => ?_, q4⟩, p7⟩
  · show (q.2.2.2.2.2.1 ++ [_]).length ≤ 8
    rw [List.length_append]; show _ + 1 ≤ 8; omega
  · have hx : x ∈ q.2.2.2.2.2.1 ++ [(a, b, c, d)] := hx
    rw [List.mem_append, List.mem_singleton] at hx
    rcases hx with hx | rfl
    · exact q3 x hx
    · exact ⟨ha, hb, hc, hab, hac, hbc, hd⟩
theorem tf_line {a a' : Nat → Int32} {x y z d : Nat} (hp : pok q) (h : tf a q) (hp2 : pok (rd_pl x y z d q)) (h8 : q.2.2.2.2.2.1.length < 8) (e : ∀ p, p ≠ 52 → p ≠ 77 + q.2.2.2.2.2.1.length → a' p = a p) (e52 : a' 52 = nI (q.2.2.2.2.2.1.length + 1)) (e77 : a' (77 + q.2.2.2.2.2.1.length) = nI d) (e53 : a (53 + 3 * q.2.2.2.2.2.1.length) = nI x) (e54 : a (53 + 3 * q.2.2.2.2.2.1.length + 1) = nI y) (e55 : a (53 + 3 * q.2.2.2.2.2.1.length + 2) = nI z) : tf a' (rd_pl x y z d q) := by
  obtain ⟨c1, c2, ⟨d1, d2, d3⟩, c4, c5⟩ := tf_iff.mp h
  have hT : q.2.2.2.2.1.length ≤ 8 := hp.2.2.2.2.1.1
  refine tf_iff.mpr ⟨c_nm.cong c1 (fun p hp => e p (by omega) (by omega)), ta_cong hT (fun j hj => (e j (by omega) (by omega)).symm) c2, ⟨?_, fun m hm => ?_, fun m h1 h2 => ?_⟩, c_ry.cong hp2 c4 (fun p h1 _ => e p (by omega) (by omega)), c_rn.cong hp2 c5 (fun p h1 _ => e p (by omega) (by omega))⟩
  · show _ = nI (q.2.2.2.2.2.1 ++ [_]).length
    rw [e52, List.length_append]; rfl
  · have hm : m < (q.2.2.2.2.2.1 ++ [(x, y, z, d)]).length := hm
    rw [List.length_append] at hm
    have hm : m < q.2.2.2.2.2.1.length + 1 := hm
    show (∀ k, k < 3 → a' (53 + 3 * m + k) = nI (zs_pt (((q.2.2.2.2.2.1 ++ [(x, y, z, d)])[m]?).getD (0, 0, 0, 0)) k)) ∧ a' (77 + m) = nI (((q.2.2.2.2.2.1 ++ [(x, y, z, d)])[m]?).getD (0, 0, 0, 0)).2.2.2
    by_cases c : m < q.2.2.2.2.2.1.length
    · rw [List.getElem?_append_left c]
      obtain ⟨g1, g2⟩ := d2 m c
      exact ⟨fun k hk => by rw [e _ (by omega) (by omega)]; exact g1 k hk, by rw [e _ (by omega) (by omega)]; exact g2⟩
    · obtain rfl : m = q.2.2.2.2.2.1.length := by omega
      rw [List.getElem?_append_right (Nat.le_refl _), Nat.sub_self]
      refine ⟨fun k hk => ?_, e77⟩
      rw [e _ (by omega) (by omega)]
      obtain rfl | rfl | rfl : k = 0 ∨ k = 1 ∨ k = 2 := by omega
      · exact e53
      · exact e54
      · exact e55
  · have h1 : (q.2.2.2.2.2.1 ++ [(x, y, z, d)]).length ≤ m := h1
    rw [List.length_append] at h1
    have h1 : q.2.2.2.2.2.1.length + 1 ≤ m := h1
    rw [e _ (by omega) (by omega)]; exact d3 m (by omega) h2
theorem t_lineLine (ok : tw_ok G o ad) (sc : sc_ok G h) {X : rd_X rd_Q} (hx : rf_x s0 tp n s X) (h8 : ∀ q, X = .ok q → q.2.2.2.2.2.1.length < 8) : wq_C G l 8 0 0 mX3_lineLine [.ref o] (tw_h G o ad s h) (tw_qv G o ad h fun s' => rf_y s0 tp n s' (X.bind (rd_line3 tp n))) := by
  have n0 : ∀ s : tw_S, s.1 13 = 1 → ¬ s.1 13 = 0 := fun s h1 c => absurd (h1.symm.trans c) (by decide)
  cases X with
  | error e =>
    have hx : rf_e s0 s e := hx
    exact wq_C.of pn_X3 (Nat.le_of_ble_eq_true rfl) rfl (vX3_lineLine_0 ok ⟨fun c => absurd c (n0 s hx.2.1), fun _ => rf_x.y (X := .error e) hx⟩)
  | ok q =>
    have hr : rf_r s0 tp n s q := hx
    have h8 := h8 q rfl
    obtain ⟨h1, h2, h3, h4, h5, h6, h7, h8', h9⟩ := id hr
    generalize hQ : (fun s' => rf_y s0 tp n s' ((Except.ok q : rd_X rd_Q).bind (rd_line3 tp n))) = Q
    have hQ : ∀ s', rf_y s0 tp n s' (rd_line3 tp n q) → Q s' := fun s' hs => by subst hQ; exact hs
    unfold rd_line3 at hQ
    have p9 : q.2.2.2.1.length ≤ 9 := h9.2.2.2.2.2.1.1
    have e52 : s.2.1 16 52 = nI q.2.2.2.2.2.1.length := (tf_iff.mp h8').2.2.1.1
    generalize hN : q.2.2.2.2.2.1.length = N at *
    have i53 : ∀ k : Nat, (53 : Int32) + 3 * nI N + nI k = nI (53 + 3 * N + k) := fun k => by rw [nI_lit 53, nI_lit 3, nI_mul, nI_add, nI_add]
    have nu : ∀ (q' : rd_Q) (k : Nat), q'.2 = q.2 → k < 3 → ¬ used q' (53 + 3 * N + k) := by
      intro q' k hq' hk
      unfold used
      have a1 : q'.2.2.2.2.2.1.length = N := by rw [hq']; exact hN
      have a2 : q'.2.2.2.2.1.length ≤ 8 := by rw [hq']; exact h9.2.2.2.2.1.1
      omega
    have p2 : ∀ x, x < q.2.2.2.1.length → 2 ^ x < 2 ^ 31 := fun x hx => Nat.pow_lt_pow_right (by omega) (by omega)
    -- a point behind a comma
    have point : ∀ (s1 s2 : tw_S) (q1 : rd_Q) (but k : Nat), rf_r s1 tp n s2 q1 → q1.2 = q.2 → but < 2 ^ 31 → 0 < k → k < 3 → (∀ e, (rd_cm tp n q1).bind (rd_pn tp n false but) = .error e → ∀ s', rf_y s1 tp n s' (.error e) → Q s') → (∀ x (s3 : tw_S), (rd_cm tp n q1).bind (rd_pn tp n false but) = .ok x → rf_r (tw_pa s1 16 (53 + 3 * N + k) (nI x.1)) tp n s3 x.2 → x.2.2 = q.2 → x.1 < q.2.2.2.1.length → but.testBit x.1 = false → tw_T G l o ad h 8 mX3_lineLine (tw_qv G o ad h Q) 20 [some (.ref o), some (.int (nI N)), some (.int (nI (but ||| 2 ^ x.1))), some (.int (nI (k + 1))), none] [] s3) → tw_T G l o ad h 8 mX3_lineLine (tw_qv G o ad h Q) 20 [some (.ref o), some (.int (nI N)), some (.int (nI but)), some (.int (nI k)), none] [] s2 := by
      intro s1 s2 q1 but k hr1 hq1 hb hk0 hk3 hE hK
      refine vX3_lineLine_20 ok ⟨fun c => ?_, fun _ => ⟨fun c => ?_, fun _ => tw_cv.use (by decide) (t_mustComma ok (X := .ok q1) hr1) fun s13 h13 => tw_ci.use (by decide) (t_passed ok sc h13 false hb) fun y s14 hv => ?_⟩⟩
      · rw [nI_lit 3, nI_leI (by omega) (by omega)] at c
        omega
      · have c : nI k ≤ nI 0 := c
        rw [nI_leI (by omega) (by omega)] at c
        omega
      · have hv : rf_v s1 tp n y s14 ((rd_cm tp n q1).bind (rd_pn tp n false but)) := hv
        cases eV : (rd_cm tp n q1).bind (rd_pn tp n false but) with
        | error e =>
          rw [eV] at hv
          have hv : rf_e s1 s14 e := hv
          exact ⟨fun c => absurd c (n0 s14 hv.2.1), fun _ => hE e eV s14 (rf_x.y (X := .error e) hv)⟩
        | ok x =>
          rw [eV] at hv
          obtain ⟨rfl, hr2⟩ : y = nI x.1 ∧ rf_r s1 tp n s14 x.2 := hv
          obtain ⟨q2, e1, e2⟩ := ex_bind eV
          obtain ⟨hx2, hxl, hxb⟩ := pn_2 e2
          have hq2 : q2.2 = q.2 := (cm_2 e1).trans hq1
          have hxq : x.2.2 = q.2 := by rw [hx2]; exact hq2
          have hxl : x.1 < q.2.2.2.1.length := by
            have : x.1 < q2.2.2.2.1.length := hxl
            rw [hq2] at this; exact this
          refine ⟨fun _ => tw_st_n _ (i53 k) (by show _ < 346; omega) ?_, fun c => absurd hr2.2.1 c⟩
          rw [nI_shl (by omega), nI_or, nI_1]
          exact hK x _ eV (hr2.free (nu x.2 k hxq hk3) (nI x.1)) hxq hxl hxb
    refine wq_C.of pn_X3 (Nat.le_of_ble_eq_true rfl) rfl (vX3_lineLine_0 ok ⟨fun _ => tw_ld_n 52 rfl (by decide) ?_, fun c => absurd h2 c⟩)
    rw [e52]
    refine vX3_lineLine_20 ok ⟨fun c => absurd c (by decide), fun _ => ⟨fun _ => tw_ci.use (by decide) (t_passed ok sc (X := .ok q) hr false (but := 0) (by decide)) fun y s10 hv => ?_, fun c => absurd (by decide) c⟩⟩
    have hv : rf_v s0 tp n y s10 (rd_pn tp n false 0 q) := hv
    cases eV : rd_pn tp n false 0 q with
    | error e =>
      rw [eV] at hv hQ
      have hv : rf_e s0 s10 e := hv
      exact ⟨fun c => absurd c (n0 s10 hv.2.1), fun _ => hQ s10 (rf_x.y (X := .error e) hv)⟩
    | ok x =>
      rw [eV] at hv hQ
      obtain ⟨rfl, hr1⟩ : y = nI x.1 ∧ rf_r s0 tp n s10 x.2 := hv
      obtain ⟨hx2, hxl, -⟩ := pn_2 eV
      have hxq : x.2.2 = q.2 := by rw [hx2]; rfl
      have hxl : x.1 < q.2.2.2.1.length := hxl
      refine ⟨fun _ => tw_st_n _ (i53 0) (by show _ < 346; omega) ?_, fun c => absurd hr1.2.1 c⟩
      rw [nI_shl (by omega), show (0 : Int32) = nI 0 from rfl, nI_or, Nat.zero_or, nI_1]
      have ra := hr1.free (nu x.2 0 hxq (by omega)) (nI x.1)
      have hQ : ∀ s', rf_y s0 tp n s' ((rd_cm tp n x.2).bind (fun q => (rd_pn tp n false (2 ^ x.1) q).bind (fun y => (rd_cm tp n y.2).bind (fun q => (rd_pn tp n false (2 ^ x.1 ||| 2 ^ y.1) q).bind (fun z => (rd_ps tp n w_is z.2).bind (fun q => (rd_odd tp n q).bind (fun p => .ok (p.2.1, p.2.2.1, p.2.2.2.1, p.2.2.2.2.1, p.2.2.2.2.2.1, p.2.2.2.2.2.2.1 ++ [(x.1, y.1, z.1, p.1)], p.2.2.2.2.2.2.2)))))))) → Q s' := hQ
      refine point _ _ x.2 (2 ^ x.1) 1 ra hxq (p2 _ hxl) (by omega) (by omega) (fun e he s' hs' => hQ s' ?_) (fun y s3 ey rb hyq hyl hyb => ?_)
      · have : (rd_cm tp n x.2).bind (fun q => (rd_pn tp n false (2 ^ x.1) q).bind (fun y => (rd_cm tp n y.2).bind (fun q => (rd_pn tp n false (2 ^ x.1 ||| 2 ^ y.1) q).bind (fun z => (rd_ps tp n w_is z.2).bind (fun q => (rd_odd tp n q).bind (fun p => (Except.ok (p.2.1, p.2.2.1, p.2.2.2.1, p.2.2.2.2.1, p.2.2.2.2.2.1, p.2.2.2.2.2.2.1 ++ [(x.1, y.1, z.1, p.1)], p.2.2.2.2.2.2.2) : rd_X rd_Q))))))) = .error e := by
          cases ec : rd_cm tp n x.2 with
          | error e' => rw [ec] at he; cases he; rfl
          | ok q1 =>
            rw [ec] at he
            have he : rd_pn tp n false (2 ^ x.1) q1 = .error e := he
            show (rd_pn tp n false (2 ^ x.1) q1).bind _ = _
            rw [he]; rfl
        rw [this]; exact hs'.pa
      · obtain ⟨q1, ec1, ep1⟩ := ex_bind ey
        rw [ec1] at hQ
        have hQ : ∀ s', rf_y s0 tp n s' ((rd_pn tp n false (2 ^ x.1) q1).bind (fun y => (rd_cm tp n y.2).bind (fun q => (rd_pn tp n false (2 ^ x.1 ||| 2 ^ y.1) q).bind (fun z => (rd_ps tp n w_is z.2).bind (fun q => (rd_odd tp n q).bind (fun p => .ok (p.2.1, p.2.2.1, p.2.2.2.1, p.2.2.2.2.1, p.2.2.2.2.2.1, p.2.2.2.2.2.2.1 ++ [(x.1, y.1, z.1, p.1)], p.2.2.2.2.2.2.2))))))) → Q s' := hQ
        rw [ep1] at hQ
        have hQ : ∀ s', rf_y s0 tp n s' ((rd_cm tp n y.2).bind (fun q => (rd_pn tp n false (2 ^ x.1 ||| 2 ^ y.1) q).bind (fun z => (rd_ps tp n w_is z.2).bind (fun q => (rd_odd tp n q).bind (fun p => .ok (p.2.1, p.2.2.1, p.2.2.2.1, p.2.2.2.2.1, p.2.2.2.2.2.1, p.2.2.2.2.2.2.1 ++ [(x.1, y.1, z.1, p.1)], p.2.2.2.2.2.2.2)))))) → Q s' := hQ
        have hxy : x.1 ≠ y.1 := by
          intro e; rw [e, Nat.testBit_two_pow_self] at hyb; cases hyb
        have b31 : 2 ^ x.1 ||| 2 ^ y.1 < 2 ^ 31 := Nat.or_lt_two_pow (p2 _ hxl) (p2 _ hyl)
        refine point _ _ y.2 (2 ^ x.1 ||| 2 ^ y.1) 2 rb hyq b31 (by omega) (by omega) (fun e he s' hs' => hQ s' ?_) (fun z s4 ez rc hzq hzl hzb => ?_)
        · have : (rd_cm tp n y.2).bind (fun q => (rd_pn tp n false (2 ^ x.1 ||| 2 ^ y.1) q).bind (fun z => (rd_ps tp n w_is z.2).bind (fun q => (rd_odd tp n q).bind (fun p => (Except.ok (p.2.1, p.2.2.1, p.2.2.2.1, p.2.2.2.2.1, p.2.2.2.2.2.1, p.2.2.2.2.2.2.1 ++ [(x.1, y.1, z.1, p.1)], p.2.2.2.2.2.2.2) : rd_X rd_Q))))) = .error e := by
            cases ec : rd_cm tp n y.2 with
            | error e' => rw [ec] at he; cases he; rfl
            | ok q1 =>
              rw [ec] at he
              have he : rd_pn tp n false (2 ^ x.1 ||| 2 ^ y.1) q1 = .error e := he
              show (rd_pn tp n false (2 ^ x.1 ||| 2 ^ y.1) q1).bind _ = _
              rw [he]; rfl
          rw [this]; exact hs'.pa.pa
        · obtain ⟨q2, ec2, ep2⟩ := ex_bind ez
          rw [ec2] at hQ
          have hQ : ∀ s', rf_y s0 tp n s' ((rd_pn tp n false (2 ^ x.1 ||| 2 ^ y.1) q2).bind (fun z => (rd_ps tp n w_is z.2).bind (fun q => (rd_odd tp n q).bind (fun p => .ok (p.2.1, p.2.2.1, p.2.2.2.1, p.2.2.2.2.1, p.2.2.2.2.2.1, p.2.2.2.2.2.2.1 ++ [(x.1, y.1, z.1, p.1)], p.2.2.2.2.2.2.2))))) → Q s' := hQ
          rw [ep2] at hQ
          have hQ : ∀ s', rf_y s0 tp n s' ((rd_ps tp n w_is z.2).bind (fun q => (rd_odd tp n q).bind (fun p => .ok (rd_pl x.1 y.1 z.1 p.1 p.2)))) → Q s' := hQ
          have hzx : x.1 ≠ z.1 := by
            intro e; rw [← e, Nat.testBit_or, Nat.testBit_two_pow_self] at hzb; cases hzb
          have hzy : y.1 ≠ z.1 := by
            intro e; rw [← e, Nat.testBit_or, Nat.testBit_two_pow_self, Bool.or_true] at hzb; cases hzb
          -- the array as it is now
          have v2 : s4.2.1 16 (53 + 3 * N + 2) = nI z.1 := by rw [rc.a16, pa_eq]
          have v1 : s4.2.1 16 (53 + 3 * N + 1) = nI y.1 := by rw [rc.a16, pa_ne (by omega), pa_eq]
          have v0 : s4.2.1 16 (53 + 3 * N) = nI x.1 := by rw [rc.a16, pa_ne (by omega), pa_ne (by omega)]; exact pa_eq
          generalize hs1 : tw_pa (tw_pa (tw_pa s0 16 (53 + 3 * N + 0) (nI x.1)) 16 (53 + 3 * N + 1) (nI y.1)) 16 (53 + 3 * N + 2) (nI z.1) = s1 at rc
          have hQ : ∀ s', rf_y s1 tp n s' ((rd_ps tp n w_is z.2).bind (fun q => (rd_odd tp n q).bind (fun p => .ok (rd_pl x.1 y.1 z.1 p.1 p.2)))) → Q s' := fun s' hs' => hQ s' (by subst hs1; exact hs'.pa.pa.pa)
          refine vX3_lineLine_20 ok ⟨fun _ => tw_cv.use (by decide) (t_pass ok sc (X := .ok z.2) rc (i := 12) (w := w_is) (by decide)) fun s5 h5' => ?_, fun c => absurd (by decide) c⟩
          have h5' : rf_x s1 tp n s5 (rd_ps tp n w_is z.2) := h5'
          cases eI : rd_ps tp n w_is z.2 with
          | error e =>
            rw [eI] at h5' hQ
            have h5' : rf_e s1 s5 e := h5'
            exact ⟨fun c => absurd c (n0 s5 h5'.2.1), fun _ => hQ s5 (rf_x.y (X := .error e) h5')⟩
          | ok q5 =>
            rw [eI] at h5' hQ
            have r5 : rf_r s1 tp n s5 q5 := h5'
            have hq5 : q5.2 = q.2 := (ps_2 eI).trans hzq
            have hQ : ∀ s', rf_y s1 tp n s' ((rd_odd tp n q5).bind (fun p => .ok (rd_pl x.1 y.1 z.1 p.1 p.2))) → Q s' := hQ
            -- the end: a line more
            have fin : ∀ (s6 : tw_S) (q6 : rd_Q) (d : Nat) (s7 : tw_S), rf_r s1 tp n s6 q6 → q6.2 = q.2 → d ≤ 1 → (d = 0 → s7 = s6) → (d = 1 → s7 = tw_pa s6 16 (77 + N) 1) → (∀ s', rf_y s1 tp n s' (.ok (rd_pl x.1 y.1 z.1 d q6)) → Q s') → tw_ld s7 16 52 (fun y8 => tw_st s7 16 52 (y8 + 1) (fun s9 => Q s9)) := by
              intro s6 q6 d s7 r6 hq6 hd1 hd0 hd1' hQ6
              have a6 : s6.2.1 16 = s4.2.1 16 := r6.a16.trans rc.a16.symm
              obtain ⟨g1, g2, g3, g4, g5, g6, g7, g8, g9⟩ := id r6
              have hN6 : q6.2.2.2.2.2.1.length = N := by rw [hq6]; exact hN
              have w52 : s6.2.1 16 52 = nI N := by have := (tf_iff.mp g8).2.2.1.1; rw [hN6] at this; exact this
              have w77 : s6.2.1 16 (77 + N) = 0 := (tf_iff.mp g8).2.2.1.2.2 N (by omega) (by omega)
              have e7 : ∀ p, p ≠ 77 + N → s7.2.1 16 p = s6.2.1 16 p := by
                intro p hp
                by_cases c : d = 0
                · rw [hd0 c]
                · rw [hd1' (by omega), pa_ne hp]
              have e7n : s7.2.1 16 (77 + N) = nI d := by
                by_cases c : d = 0
                · rw [hd0 c, w77, c]; rfl
                · have : d = 1 := by omega
                  rw [hd1' this, pa_eq, this]; rfl
              have e71 : s7.1 = s6.1 := by
                by_cases c : d = 0
                · rw [hd0 c]
                · rw [hd1' (by omega)]; rfl
              have e7o : ∀ k, k ≠ 16 → s7.2.1 k = s6.2.1 k := by
                intro k hk
                by_cases c : d = 0
                · rw [hd0 c]
                · rw [hd1' (by omega), pa_no hk]
              refine tw_ld_n 52 rfl (by decide) (tw_st_n 52 rfl (by decide) (hQ6 _ ?_))
              rw [e7 52 (by omega), w52, nI_1]
              have hq6' : ∀ {α : Type} (f : Nat × List (List Nat) × List (List Nat) × zs_T × List zs_N × List (Nat → Int) × List (List (Nat × Nat)) → α), f q6.2 = f q.2 := fun f => by rw [hq6]
              have hp2 : pok (rd_pl x.1 y.1 z.1 d q6) := pok_line g9 (by omega) (by rw [hq6]; exact hxl) (by rw [hq6]; exact hyl) (by rw [hq6]; exact hzl) hxy hzx hzy hd1
              refine ⟨_, r6.put (s' := tw_pa s7 16 52 (nI (N + 1))) (q' := rd_pl x.1 y.1 z.1 d q6) e71 (fun k hk => by rw [pa_no hk]; exact e7o k hk) rfl ?_ hp2⟩
              refine tf_line (a := s6.2.1 16) g9 g8 hp2 (by omega) (fun p c1 c2 => ?_) ?_ ?_ ?_ ?_ ?_
              · rw [hN6] at c2
                rw [pa_ne c1]; exact e7 p c2
              · rw [pa_eq, hN6]
              · rw [hN6, pa_ne (by omega)]; exact e7n
              · rw [hN6, a6]; exact v0
              · rw [hN6, a6]; exact v1
              · rw [hN6, a6]; exact v2
            refine ⟨fun _ => tw_ci.use (by decide) (t_takes ok sc r5 (i := 16) (w := w_odd) (by decide)) ?_, fun c => absurd r5.2.1 c⟩
            rintro r s6 ⟨rfl, k1, k2⟩
            rw [b2i_0]
            refine ⟨fun c => ?_, fun c => ?_⟩
            · obtain rfl := k2 c
              refine tw_cv.use (by decide) (t_pass ok sc (X := .ok q5) r5 (i := 11) (w := w_even) (by decide)) fun s7 h7' => ?_
              have h7' : rf_x s1 tp n s7 (rd_ps tp n w_even q5) := h7'
              cases eE : rd_ps tp n w_even q5 with
              | error e =>
                rw [eE] at h7'
                have h7' : rf_e s1 s7 e := h7'
                have b52 : s7.2.1 16 52 = nI N := by
                  have := (tf_iff.mp r5.2.2.2.2.2.2.2.1).2.2.1.1
                  rw [show q5.2.2.2.2.2.1.length = N by rw [hq5]; exact hN] at this
                  rw [h7'.a16, ← r5.a16]; exact this
                refine tw_ld_n 52 rfl (by decide) (tw_st_n 52 rfl (by decide) (hQ _ ?_))
                have : (rd_odd tp n q5).bind (fun p => (.ok (rd_pl x.1 y.1 z.1 p.1 p.2) : rd_X rd_Q)) = .error e := by
                  unfold rd_odd; rw [if_neg (by rw [c]; decide), eE]; rfl
                rw [this]
                exact (rf_x.y (X := .error e) h7'.pa).pa
              | ok q7 =>
                rw [eE] at h7'
                have h7' : rf_r s1 tp n s7 q7 := h7'
                refine fin s7 q7 0 s7 h7' ((ps_2 eE).trans hq5) (by omega) (fun _ => rfl) (fun q => by cases q) (fun s' hs' => hQ s' ?_)
                unfold rd_odd; rw [if_neg (by rw [c]; decide), eE]; exact hs'
            · simp only [Bool.not_eq_false] at c
              refine tw_st_n (77 + N) (by rw [nI_lit 77, nI_add]) (by show _ < 346; omega) ?_
              refine fin s6 (rd_adv tp n q5) 1 _ (k1 c) hq5 (by omega) (fun q => by cases q) (fun _ => rfl) (fun s' hs' => hQ s' ?_)
              unfold rd_odd; rw [if_pos c]; exact hs'
end TW34
