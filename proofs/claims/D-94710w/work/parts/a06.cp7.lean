/-! CONTRACTS of the component: tables that are changed, second: flips, forgets, an element gone -/
set_option maxRecDepth 100000
theorem si_n {G : wq_G} {h : wq_H} {a m : Nat} {f : Nat → Int32} {i x : Int32} {F : wq_H → Prop} (ha : h a = some (.inl (G.2.2.1 0, m, .inl f))) (hz : G.1 ≤ a) (n : Nat) (e : i = nI n) (hn : n < m) (hm : m < 2 ^ 31) (q : F (wq_set h a (.inl (G.2.2.1 0, m, .inl (upd f n x))))) : wq_si G h a i x F := by
  subst e
  refine ⟨m, f, ha, hz, vp_in_nI hn hm, ?_⟩
  rw [nI_clamp (by omega)]
  exact q
section CP7
variable {G : wq_G} {l : Launch} {d C S : Nat} {h : wq_H} {P : Nat → Prop} {t li j : Nat} {sa ta ca : Nat → Nat} {T : zs_T} {L N : Nat}
theorem c_aflips {a ta ca : Nat} {e : zs_E} (ha : as_at G h a ta ca e) (hd : ta ≠ ca) (h1 : e.1 < 6) {x : Nat} (hx6 : x < 6) (hi : zs_isof e x = true) (zt : G.1 ≤ ta) (zc : G.1 ≤ ca) : wq_C G l 5 3 12 mX9_flips [.ref a, .int (nI x)] h (wq_qv fun h' => as_at G h' a ta ca (zs_flp e x) ∧ hx (fun b => b = ta ∨ b = ca) h h') := by
  have h4 := zs_out_le e
  have lv := as_live ha
  generalize hK : (fun (h' : wq_H) => as_at G h' a ta ca (zs_flp e x) ∧ hx (fun b => b = ta ∨ b = ca) h h') = K
  have loop : ∀ (h1 : wq_H) (b tb cb : Nat), fa G h h1 b tb cb (zs_cp 1 e) → wq_T G l 5 mX9_flips (wq_qv K) 8 [some (.ref a), some (.int (nI x)), some (va_rf (some b)), some (.int 0)] [] h1 0 0 := by
    rintro h1 b tb cb ⟨f1, f2, f3, f4, f5, f6⟩
    refine down (P := fun o => ∀ h2, (as_at G h2 b tb cb (zs_cp 1 e)) → (h2 a = h a) → (∃ f, h2 ta = some (.inl (G.2.2.1 0, 4, .inl f)) ∧ ∀ p, p < zs_out e → f p = nI (flo e.2.2.1 (zs_by e x) o p)) → (∃ f, h2 ca = some (.inl (G.2.2.1 0, 4, .inl f)) ∧ ∀ p, p < zs_out e → f p = nI (flo e.2.2.2 (zs_by e x) o p)) → hx (fun b => b = ta ∨ b = ca) h h2 → wq_T G l 5 mX9_flips (wq_qv K) 8 [some (.ref a), some (.int (nI x)), some (va_rf (some b)), some (.int (nI o))] [] h2 0 0) (n := zs_out e) ?_ ?_ h1 f5 ?_ ?_ ?_ ?_
    · rintro h2 - q2 ⟨f, q3, q4⟩ ⟨g, q5, q6⟩ q7
      have a2 : as_at G h2 a ta ca (zs_flp e x) := by
        refine ⟨?_, ⟨f, q3, fun o ho => ?_⟩, g, q5, fun o ho => ?_⟩
        · rw [q2]; exact ha.1
        · rw [q4 o ho, flo, if_pos (zs_by_out e x ho)]; rfl
        · rw [q6 o ho, flo, if_pos (zs_by_out e x ho)]; rfl
      subst hK
      exact vX9_flips_8 (v_outcomes a2 (by decide) ⟨fun _ => ⟨a2, q7⟩, fun c => absurd (Int32.le_refl _) c⟩)
    · rintro o ho ih h2 q1 q2 ⟨f, q3, q4⟩ ⟨g, q5, q6⟩ q7
      have hf := zs_by_out e x ho
      have n1 : ta ≠ a := by rintro rfl; rw [q2, ha.1] at q3; cases q3
      have n2 : ca ≠ a := by rintro rfl; rw [q2, ha.1] at q5; cases q5
      -- the set as it is on the way: its numbers don't matter
      have mk : ∀ h3 : wq_H, h3 a = h a → (∃ f, h3 ta = some (.inl (G.2.2.1 0, 4, .inl f))) → (∃ f, h3 ca = some (.inl (G.2.2.1 0, 4, .inl f))) → ∃ e3, as_at G h3 a ta ca e3 ∧ e3.1 = e.1 ∧ e3.2.1 = e.2.1 := by
        rintro h3 w1 ⟨f, w2⟩ ⟨g, w3⟩
        refine ⟨(e.1, e.2.1, fun o => (f o).toBitVec.toNat, fun o => (g o).toBitVec.toNat), ⟨by rw [w1]; exact ha.1, ⟨f, w2, fun o _ => ?_⟩, g, w3, fun o _ => ?_⟩, rfl, rfl⟩
        · exact Int32.toBitVec_inj.mp (by show _ = BitVec.ofNat 32 _; simp)
        · exact Int32.toBitVec_inj.mp (by show _ = BitVec.ofNat 32 _; simp)
      have oo : ∀ e3 : zs_E, e3.2.1 = e.2.1 → zs_out e3 = zs_out e := fun e3 z => by unfold zs_out; rw [z]
      have ii : ∀ e3 : zs_E, e3.1 = e.1 → e3.2.1 = e.2.1 → zs_isof e3 x = true := fun e3 z1 z2 => by unfold zs_isof; rw [z1, z2]; exact hi
      have bb : ∀ e3 : zs_E, e3.1 = e.1 → e3.2.1 = e.2.1 → zs_by e3 x = zs_by e x := fun e3 z1 z2 => by unfold zs_by; rw [z1, z2]
      obtain ⟨e3, r1, r2, r3⟩ := mk h2 q2 ⟨f, q3⟩ ⟨g, q5⟩
      obtain ⟨b1, ⟨u, b2, b3⟩, w, b4, b5⟩ := id q1
      have n3 : tb ≠ ta := by rintro rfl; exact lv.2.1 f2.1
      have n4 : cb ≠ ta := by rintro rfl; exact lv.2.1 f3.1
      have n5 : b ≠ ta := by rintro rfl; exact lv.2.1 f1.1
      have n6 : tb ≠ ca := by rintro rfl; exact lv.2.2 f2.1
      have n7 : cb ≠ ca := by rintro rfl; exact lv.2.2 f3.1
      have n8 : b ≠ ca := by rintro rfl; exact lv.2.2 f1.1
      refine vX9_flips_8 (v_outcomes r1 (by decide) ⟨fun c => ?_, fun _ => as_R0 r1 (v_flipped r1 (by omega) hx6 (ii e3 r2 r3) (by rw [oo e3 r3]; exact ho) (by decide) ⟨b, rfl, as_R0 q1 (ai_n b2 o rfl (by omega) (by omega) (si_n q3 zt (o ^^^ zs_by e3 x) rfl (by rw [bb e3 r2 r3]; omega) (by omega) ?_))⟩)⟩)
      · rw [oo e3 r3, nI_leI (by omega) (by omega)] at c
        omega
      · rw [bb e3 r2 r3, b3 o ho]
        have c2 : (wq_set h2 ta (.inl (G.2.2.1 0, 4, .inl (upd f (o ^^^ zs_by e x) (nI ((zs_cp 1 e).2.2.1 o)))))) ca = some (.inl (G.2.2.1 0, 4, .inl g)) := by rw [wq_set_ne hd.symm]; exact q5
        obtain ⟨e4, s1, s2, s3⟩ := mk _ (by rw [wq_set_ne n1.symm]; exact q2) ⟨_, wq_set_eq⟩ ⟨g, c2⟩
        have q1' := q1.frame (h' := wq_set h2 ta (.inl (G.2.2.1 0, 4, .inl (upd f (o ^^^ zs_by e x) (nI ((zs_cp 1 e).2.2.1 o)))))) (wq_set_ne n5) (wq_set_ne n3) (wq_set_ne n4)
        refine as_R1 s1 (v_flipped s1 (by omega) hx6 (ii e4 s2 s3) (by rw [oo e4 s3]; exact ho) (by decide) (as_R1 q1' (ai_n (by rw [wq_set_ne n4]; exact b4) o rfl (by omega) (by omega) (si_n c2 zc (o ^^^ zs_by e4 x) rfl (by rw [bb e4 s2 s3]; omega) (by omega) ?_))))
        rw [bb e4 s2 s3, b5 o ho, nI_1]
        refine ih _ (q1'.frame (wq_set_ne n8) (wq_set_ne n6) (wq_set_ne n7)) (by rw [wq_set_ne n2.symm, wq_set_ne n1.symm]; exact q2) ⟨_, by rw [wq_set_ne hd, wq_set_eq]; rfl, flo_s q4⟩ ⟨_, wq_set_eq, ?_⟩ ((q7.t (hx.set (Or.inl (Or.inl rfl)))).t (hx.set (Or.inl (Or.inr rfl))))
        exact flo_s q6
    · rw [f6.1 _ _ id ha.1, ha.1]
    · obtain ⟨f, g1, g2⟩ := as_t ha
      exact ⟨f, f6.1 _ _ id g1, fun p hp => by rw [g2 p hp, flo, if_neg (Nat.not_lt_zero _)]⟩
    · obtain ⟨f, g1, g2⟩ := as_c ha
      exact ⟨f, f6.1 _ _ id g1, fun p hp => by rw [g2 p hp, flo, if_neg (Nat.not_lt_zero _)]⟩
    · exact f6.mono fun _ z => z.elim
  refine wq_C.of pn_X9 (Nat.le_of_ble_eq_true rfl) rfl (vX9_flips_0 (v_acopy ha zt zc 1 (by decide) (by omega) (by omega) loop))
theorem mapk_s {f : zs_E → zs_E} {T : zs_T} {k : Nat} (hk : k < T.length) : (mapk f T k).set k (f (zs_at T k)) = mapk f T (k + 1) := by
  apply List.ext_getElem?
  intro i
  by_cases c : i = k
  · rw [c, List.getElem?_set_self (by rw [mapk_len]; exact hk), mapk_get, if_pos (by omega), zs_get hk]; rfl
  · rw [List.getElem?_set_ne (fun z => c z.symm), mapk_get, mapk_get]
    by_cases c2 : i < k
    · rw [if_pos c2, if_pos (by omega)]
    · rw [if_neg c2, if_neg (by omega)]
theorem isof_by {e : zs_E} {x : Nat} (h : zs_isof e x = false) : zs_by e x = 0 := by
  simp only [zs_isof, Bool.or_eq_false_iff, decide_eq_false_iff_not] at h
  unfold zs_by
  cases q : e.2.1 with
  | none => simp [h.1]
  | some b =>
    rw [q] at h
    simp only [Option.some.injEq] at h
    simp [h.1, h.2]
theorem c_tflips (hk : kon G h) (k : tzx G h P t li j sa ta ca T) (hP : ∀ b, P b → G.1 ≤ b) (hT : zs_ok L N T) (hL : L ≤ 6) {x : Nat} (hx6 : x < 6) : wq_C G l 6 24 96 mX7_flips [.ref t, .int (nI x)] h (wq_qv fun h' => tz G h' P t (T.map (fun e => zs_flp e x)) ∧ hx P h h') := by
  have h8 := hT.1
  refine wq_C.of pn_X7 (Nat.le_of_ble_eq_true rfl) rfl (vX7_flips_0 ?_)
  refine down (P := fun i => ∀ (h1 : wq_H) (C S : Nat), (8 - i) * 3 ≤ C → (8 - i) * 12 ≤ S → tzx G h1 P t li j sa ta ca (mapk (fun e => zs_flp e x) T i) → hx P h h1 → wq_T G l 6 mX7_flips (wq_qv fun h' => tz G h' P t (T.map (fun e => zs_flp e x)) ∧ hx P h h') 2 [some (.ref t), some (.int (nI x)), some (.int (nI i))] [] h1 C S) (n := T.length) ?_ ?_ h _ _ (by omega) (by omega) (by rw [mapk_0]; exact k) hx.refl
  · intro h1 C S hC hS q1 q2
    obtain ⟨ba, ht⟩ := q1.at
    refine vX7_flips_2 (u_size ht (by decide) ⟨fun _ => ?_, fun c => ?_⟩)
    · exact ⟨tz_x.mpr ⟨li, j, sa, ta, ca, by rw [← mapk_all]; exact q1⟩, q2⟩
    · exact absurd (by rw [mapk_len]; exact Int32.le_refl _) c
  · intro i hi ih h1 C S hC hS q1 q2
    obtain ⟨ba, ht⟩ := q1.at
    have hi1 : i < (mapk (fun e => zs_flp e x) T i).length := by rw [mapk_len]; exact hi
    have hat : zs_at (mapk (fun e => zs_flp e x) T i) i = zs_at T i := by rw [mapk_at hi, if_neg (by omega)]
    have hs := ht.2.2 i hi1
    have o6 := ok6 hT hL hi
    rw [hat] at hs
    have g := q1.2.2.2.1 i hi1
    have nd := (q1.2.2.2.2 i i hi1 hi1).2.2
    have next : ∀ (h2 : wq_H) (C2 S2 : Nat), C - 3 ≤ C2 → S - 12 ≤ S2 → tzx G h2 P t li j sa ta ca (mapk (fun e => zs_flp e x) T (i + 1)) → hx P h h2 → wq_T G l 6 mX7_flips (wq_qv fun h' => tz G h' P t (T.map (fun e => zs_flp e x)) ∧ hx P h h') 2 [some (.ref t), some (.int (nI x)), some (.int (nI i + 1))] [] h2 C2 S2 := by
      intro h2 C2 S2 c1 c2 w1 w2
      rw [nI_1]
      exact ih h2 C2 S2 (by omega) (by omega) w1 w2
    have flip : zs_isof (zs_at T i) x = true → ∀ C S : Nat, wq_C G l 5 3 12 mX9_flips [.ref (sa i), .int (nI x)] h1 (wq_qv fun h2 => tzx G h2 P t li j sa ta ca (mapk (fun e => zs_flp e x) T (i + 1)) ∧ hx P h h2) := by
      intro hi2 C S
      refine (c_aflips hs nd o6.1 hx6 hi2 (hP _ g.2.1) (hP _ g.2.2.1)).mono ?_
      rintro r h2 ⟨rfl, w1, w2⟩
      have w3 : hx P h1 h2 := w2.mono fun b hb => by
        rcases hb with z | z
        · rw [z]; exact g.2.1
        · rw [z]; exact g.2.2.1
      refine ⟨rfl, ?_, q2.t w3⟩
      rw [← mapk_s hi]
      exact q1.upd ((hk.hx q2 hP).hx w3 hP) hi1 w1 w2
    refine vX7_flips_2 (u_size ht (by decide) ⟨fun c => ?_, fun _ => u_set ht hi1 (by decide) ⟨_, rfl, v_isOf hs o6.1 o6.2 hx6 (by decide) ⟨fun c => next h1 C S (by omega) (by omega) ?_ q2, fun c => u_set ht hi1 (by decide) ⟨_, rfl, as_v hs (fun _ => ?_) (fun _ _ => ?_)⟩⟩⟩⟩)
    · rw [mapk_len, nI_leI (by omega) (by omega)] at c
      omega
    · rw [b2i_0] at c
      have : mapk (fun e => zs_flp e x) T (i + 1) = mapk (fun e => zs_flp e x) T i := by
        rw [← mapk_s hi]
        show (mapk (fun e => zs_flp e x) T i).set i (zs_flp (zs_at T i) x) = _
        rw [zs_flp_0 (isof_by c)]
        apply List.ext_getElem?
        intro m
        by_cases z : m = i
        · rw [z, List.getElem?_set_self hi1, zs_get hi1, hat]
        · rw [List.getElem?_set_ne (fun y => z y.symm)]
      rw [this]
      exact q1
    · rw [b2i_0, Bool.not_eq_false] at c
      exact wq_cw.use (by decide) (by omega) (by omega) (flip c C S) fun h2 w => next h2 _ _ (by omega) (by omega) w.1 w.2
    · rw [b2i_0, Bool.not_eq_false] at c
      exact wq_cw.use (by decide) (by omega) (by omega) (flip c C S) fun h2 w => next h2 _ _ (by omega) (by omega) w.1 w.2
/-- a set gone -/
theorem tzx.erase {h' : wq_H} (k : tzx G h P t li j sa ta ca T) (hk : kon G h') {i : Nat} (hi : i < T.length) (q : al_j G h' P li (((List.range T.length).map sa).eraseIdx i) j) (q2 : hx (fun b => P b ∧ lk (h b)) h h') : tz G h' P t (T.eraseIdx i) := by
  obtain ⟨p1, p2, p3, p4, p5⟩ := k
  have hl : (T.eraseIdx i).length = T.length - 1 := by rw [List.length_eraseIdx, if_pos hi]
  have at_ : ∀ m, zs_at (T.eraseIdx i) m = zs_at T (if m < i then m else m + 1) := by
    intro m
    unfold zs_at
    rw [List.getElem?_eraseIdx]
    split <;> rfl
  refine ⟨li, j, fun m => sa (if m < i then m else m + 1), fun m => ta (if m < i then m else m + 1), fun m => ca (if m < i then m else m + 1), p1, q2.1 _ _ ?_ p2, ?_, fun m hm => ?_, fun m n hm hn => ?_⟩
  · rintro ⟨-, z⟩
    rw [p2] at z
    rcases z with ⟨fs, z⟩ | ⟨c, n, f, z⟩ <;> cases z
  · have e1 : ((List.range T.length).map sa).eraseIdx i = (List.range (T.eraseIdx i).length).map (fun m => sa (if m < i then m else m + 1)) := by
      refine range_eq (by rw [hl, List.length_eraseIdx, if_pos (by simp; exact hi)]; simp) fun m hm => ?_
      rw [hl] at hm
      rw [List.getElem?_eraseIdx]
      by_cases c : m < i
      · rw [if_pos c, if_pos c, List.getElem?_map, List.getElem?_range (by omega)]; rfl
      · rw [if_neg c, if_neg c, List.getElem?_map, List.getElem?_range (by omega)]; rfl
    rw [← e1]
    exact q
  · rw [hl] at hm
    obtain ⟨w1, w2, w3, w4⟩ := p4 (if m < i then m else m + 1) (by split <;> omega)
    have nl := as_nlk w4
    rw [at_]
    exact ⟨w1, w2, w3, w4.hx q2 (fun z => nl.1 z.2) (fun z => nl.2.1 z.2) (fun z => nl.2.2 z.2)⟩
  · rw [hl] at hm hn
    have := p5 (if m < i then m else m + 1) (if n < i then n else n + 1) (by split <;> omega) (by split <;> omega)
    refine ⟨fun z => ?_, fun z => ?_, this.2.2⟩
    · have := this.1 z
      split at this <;> split at this <;> omega
    · have := this.2.1 z
      split at this <;> split at this <;> omega
/-- a set's place taken by a new one -/
theorem tzx.repl {h' : wq_H} {Q : Nat → Prop} (k : tzx G h P t li j sa ta ca T) (hPQ : ∀ b, P b → Q b) {i : Nat} (hi : i < T.length) {b tb cb : Nat} {e : zs_E} (ha : as_at G h b tb cb e) (n1 : ¬ P tb) (n2 : ¬ P cb) (n3 : tb ≠ cb) (z1 : Q b) (z2 : Q tb) (z3 : Q cb) (q : al_j G h' P li (((List.range T.length).map sa).set i b) j) (q2 : hx (fun b => P b ∧ lk (h b)) h h') : tz G h' Q t (T.set i e) := by
  obtain ⟨p1, p2, p3, p4, p5⟩ := k
  have hl : (T.set i e).length = T.length := List.length_set ..
  refine ⟨li, j, fun m => if m = i then b else sa m, fun m => if m = i then tb else ta m, fun m => if m = i then cb else ca m, hPQ _ p1, q2.1 _ _ ?_ p2, ?_, fun m hm => ?_, fun m n hm hn => ?_⟩
  · rintro ⟨-, z⟩
    rw [p2] at z
    rcases z with ⟨fs, z⟩ | ⟨c, n, f, z⟩ <;> cases z
  · have e1 : ((List.range T.length).map sa).set i b = (List.range (T.set i e).length).map (fun m => if m = i then b else sa m) := by
      refine range_eq (by rw [hl, List.length_set]; simp) fun m hm => ?_
      rw [hl] at hm
      by_cases c : m = i
      · rw [if_pos c, c, List.getElem?_set_self (by simp; exact hi)]
      · rw [if_neg c, List.getElem?_set_ne (fun z => c z.symm), List.getElem?_map, List.getElem?_range hm]; rfl
    rw [← e1]
    exact q.mono hPQ
  · rw [hl] at hm
    rw [sets_at hi]
    by_cases c : m = i
    · have nl := as_nlk ha
      show Q (if m = i then b else sa m) ∧ Q (if m = i then tb else ta m) ∧ Q (if m = i then cb else ca m) ∧ as_at G h' (if m = i then b else sa m) (if m = i then tb else ta m) (if m = i then cb else ca m) _
      rw [if_pos c, if_pos c, if_pos c, if_pos c]
      exact ⟨z1, z2, z3, ha.hx q2 (fun z => nl.1 z.2) (fun z => nl.2.1 z.2) (fun z => nl.2.2 z.2)⟩
    · obtain ⟨w1, w2, w3, w4⟩ := p4 m hm
      have nl := as_nlk w4
      show Q (if m = i then b else sa m) ∧ Q (if m = i then tb else ta m) ∧ Q (if m = i then cb else ca m) ∧ as_at G h' (if m = i then b else sa m) (if m = i then tb else ta m) (if m = i then cb else ca m) _
      rw [if_neg c, if_neg c, if_neg c, if_neg c]
      exact ⟨hPQ _ w1, hPQ _ w2, hPQ _ w3, w4.hx q2 (fun z => nl.1 z.2) (fun z => nl.2.1 z.2) (fun z => nl.2.2 z.2)⟩
  · rw [hl] at hm hn
    show ((if m = i then tb else ta m) = (if n = i then tb else ta n) → m = n) ∧ ((if m = i then cb else ca m) = (if n = i then cb else ca n) → m = n) ∧ (if m = i then tb else ta m) ≠ (if n = i then cb else ca n)
    by_cases c : m = i <;> by_cases c2 : n = i
    · rw [if_pos c, if_pos c2, if_pos c, if_pos c2]
      exact ⟨fun _ => by omega, fun _ => by omega, n3⟩
    · rw [if_pos c, if_neg c2, if_pos c, if_neg c2]
      refine ⟨fun z => ?_, fun z => ?_, fun z => ?_⟩
      · exact absurd (by rw [z]; exact (p4 n hn).2.1) n1
      · exact absurd (by rw [z]; exact (p4 n hn).2.2.1) n2
      · exact n1 (by rw [z]; exact (p4 n hn).2.2.1)
    · rw [if_neg c, if_pos c2, if_neg c, if_pos c2]
      refine ⟨fun z => ?_, fun z => ?_, fun z => ?_⟩
      · exact absurd (by rw [← z]; exact (p4 m hm).2.1) n1
      · exact absurd (by rw [← z]; exact (p4 m hm).2.2.1) n2
      · exact n2 (by rw [← z]; exact (p4 m hm).2.1)
    · rw [if_neg c, if_neg c2, if_neg c, if_neg c2]
      exact p5 m n hm hn
/-- what is left of a set of two looks -/
theorem c_without11 {a ta ca y : Nat} {e : zs_E} (ha : as_at G h a ta ca e) (q : e.2.1 = some y) (h1 : e.1 < 6) (h2 : y < 6) (zt : G.1 ≤ ta) {x : Nat} (hx6 : x < 6) (hi : zs_isof e x = true) : wq_C G l 3 3 12 mX11_without [.ref a, .int (nI x)] h (wq_qq fun r h' => ∃ b tb cb e', r = some b ∧ zs_wo x e = some e' ∧ fa G h h' b tb cb e') := by
  have lv := as_live ha
  obtain ⟨f, g1, g2⟩ := as_t ha
  rw [out_2 q] at g2
  generalize hK : (fun (r : Option Nat) (h' : wq_H) => ∃ b tb cb e', r = some b ∧ zs_wo x e = some e' ∧ fa G h h' b tb cb e') = K
  have loop : ∀ (h1 : wq_H) (b tb cb z : Nat), fa G h h1 b tb cb (z, none, fun _ => 0, fun _ => 0) → (z = if e.1 = x then y else e.1) → ∀ C S, wq_T G l 3 mX11_without (wq_qq K) 29 [some (.ref a), some (.int (nI x)), some (.ref b), some (.int 0)] [] h1 C S := by
    rintro h1 b tb cb z ⟨f1, f2, f3, f4, f5, f6⟩ hz C S
    have n1 : a ≠ tb := by rintro rfl; exact lv.1 f2.1
    have n2 : ta ≠ tb := by rintro rfl; exact lv.2.1 f2.1
    obtain ⟨k1, ⟨u, k2, k3⟩, w, k4, k5⟩ := id f5
    have n3 : b ≠ tb := by rintro rfl; rw [k1] at k2; cases k2
    have a9 : h1 a = _ := f6.1 _ _ id (as_9 ha q)
    -- the sums as far as o
    let sm : Nat → Nat → Nat := fun o p => fo (fun i s => if (if e.1 = x then i % 2 else i / 2) = p then s + e.2.2.1 i else s) o 0
    refine down (P := fun o => ∀ h2, h2 b = some (.inr (8, [.ref tb, .ref cb, .int (nI z)])) → h2 a = some (.inr (9, [.ref ta, .ref ca, .int (nI e.1), .int (nI y)])) → h2 ta = some (.inl (G.2.2.1 0, 4, .inl f)) → (∃ v, h2 tb = some (.inl (G.2.2.1 0, 4, .inl v)) ∧ ∀ p, p < 2 → v p = nI (sm o p)) → h2 cb = some (.inl (G.2.2.1 0, 4, .inl w)) → hx (fun _ => False) h h2 → wq_T G l 3 mX11_without (wq_qq K) 29 [some (.ref a), some (.int (nI x)), some (.ref b), some (.int (nI o))] [] h2 C S) (n := 4) ?_ ?_ h1 k1 a9 (f6.1 _ _ id g1) ⟨u, k2, fun p hp => k3 p hp⟩ k4 f6
    · rintro h2 w1 w2 w3 ⟨v, w4, w5⟩ w6 w7
      refine vX11_without_29 ⟨fun _ => ?_, fun c => absurd (by decide) c⟩
      subst hK
      by_cases c : e.1 = x
      · have e0 : zs_wo x e = some (y, none, fun o => if o = 0 then e.2.2.1 0 + e.2.2.1 2 else e.2.2.1 1 + e.2.2.1 3, fun _ => 0) := by simp [zs_wo, c, q]
        rw [if_pos c] at hz
        refine ⟨b, tb, cb, _, rfl, e0, f1, f2, f3, f4, ⟨by rw [← hz]; exact w1, ⟨v, w4, fun o ho => ?_⟩, w, w6, fun o ho => k5 o ho⟩, w7⟩
        have ho2 : o < 2 := ho
        rw [w5 o ho2]
        obtain rfl | rfl : o = 0 ∨ o = 1 := by omega
        · show nI (fo (fun i s => if (if e.1 = x then i % 2 else i / 2) = 0 then s + e.2.2.1 i else s) 4 0) = _
          simp [fo, c]
        · show nI (fo (fun i s => if (if e.1 = x then i % 2 else i / 2) = 1 then s + e.2.2.1 i else s) 4 0) = _
          simp [fo, c]
      · have hy : y = x := by
          simp only [zs_isof, q, Option.some.injEq, Bool.or_eq_true, decide_eq_true_eq] at hi
          rcases hi with w | w
          · exact absurd w c
          · exact w
        have e0 : zs_wo x e = some (e.1, none, fun o => if o = 0 then e.2.2.1 0 + e.2.2.1 1 else e.2.2.1 2 + e.2.2.1 3, fun _ => 0) := by simp [zs_wo, c, q, hy]
        rw [if_neg c] at hz
        refine ⟨b, tb, cb, _, rfl, e0, f1, f2, f3, f4, ⟨by rw [← hz]; exact w1, ⟨v, w4, fun o ho => ?_⟩, w, w6, fun o ho => k5 o ho⟩, w7⟩
        have ho2 : o < 2 := ho
        rw [w5 o ho2]
        obtain rfl | rfl : o = 0 ∨ o = 1 := by omega
        · show nI (fo (fun i s => if (if e.1 = x then i % 2 else i / 2) = 0 then s + e.2.2.1 i else s) 4 0) = _
          simp [fo, c]
        · show nI (fo (fun i s => if (if e.1 = x then i % 2 else i / 2) = 1 then s + e.2.2.1 i else s) 4 0) = _
          simp [fo, c]
    · rintro o ho ih h2 w1 w2 w3 ⟨v, w4, w5⟩ w6 w7
      refine vX11_without_29 ⟨fun c => ?_, fun _ => gR1 w1 rfl (gI1 w2 rfl ⟨fun c => ?_, fun c => ?_⟩)⟩
      · rw [nI_lit 4, nI_leI (by omega) (by omega)] at c
        omega
      · rw [nI_eq (by omega) (by omega)] at c
        have e1 : nI o / 2 = nI (o / 2) := by
          have : ∀ o, o < 4 → nI o / 2 = nI (o / 2) := by decide
          exact this o ho
        rw [e1]
        refine ai_n w4 (o / 2) rfl (by omega) (by omega) (gR1 w2 rfl (ai_n w3 o rfl (by omega) (by omega) (si_n w4 f2.2 (o / 2) rfl (by omega) (by omega) ?_)))
        rw [nI_1]
        refine ih _ (by rw [wq_set_ne n3]; exact w1) (by rw [wq_set_ne n1]; exact w2) (by rw [wq_set_ne n2]; exact w3) ⟨_, wq_set_eq, fun p hp => ?_⟩ (by rw [wq_set_ne f4.symm]; exact w6) (w7.trans (hx.set (P := fun i => i = tb) (Or.inl rfl)) (fun i hi => Or.inr (by rw [hi]; exact f2.1)))
        rw [w5 _ (by omega), g2 o ho, nI_add]
        show (if p = o / 2 then _ else v p) = nI (if (if e.1 = x then o % 2 else o / 2) = p then sm o p + e.2.2.1 o else sm o p)
        rw [if_neg (show ¬ e.1 = x from fun y => c y.symm)]
        by_cases c2 : p = o / 2
        · rw [if_pos c2, if_pos c2.symm, c2]
        · rw [if_neg c2, if_neg (fun y => c2 y.symm), w5 p hp]
      · rw [nI_eq (by omega) (by omega)] at c
        have e1 : nI o - nI o / 2 * 2 = nI (o % 2) := nI_mod2 (by omega)
        rw [e1]
        refine ai_n w4 (o % 2) rfl (by omega) (by omega) (gR1 w2 rfl (ai_n w3 o rfl (by omega) (by omega) (si_n w4 f2.2 (o % 2) rfl (by omega) (by omega) ?_)))
        rw [nI_1]
        refine ih _ (by rw [wq_set_ne n3]; exact w1) (by rw [wq_set_ne n1]; exact w2) (by rw [wq_set_ne n2]; exact w3) ⟨_, wq_set_eq, fun p hp => ?_⟩ (by rw [wq_set_ne f4.symm]; exact w6) (w7.trans (hx.set (P := fun i => i = tb) (Or.inl rfl)) (fun i hi => Or.inr (by rw [hi]; exact f2.1)))
        rw [w5 _ (by omega), g2 o ho, nI_add]
        show (if p = o % 2 then _ else v p) = nI (if (if e.1 = x then o % 2 else o / 2) = p then sm o p + e.2.2.1 o else sm o p)
        rw [if_pos c.symm]
        by_cases c2 : p = o % 2
        · rw [if_pos c2, if_pos c2.symm, c2]
        · rw [if_neg c2, if_neg (fun y => c2 y.symm), w5 p hp]
  refine wq_C.of pn_X11 (Nat.le_of_ble_eq_true rfl) rfl (vX11_without_0 ⟨by omega, by omega, fun b hb zb => ?_⟩)
  have nb : a ≠ b := by rintro rfl; exact lv.1 hb
  have q9 : (wq_set h b (.inr (8, [.null, .null, .int 0]))) a = _ := (wq_set_ne nb).trans (as_9 ha q)
  refine gI1 q9 rfl ⟨fun c => gI1 q9 rfl ?_, fun c => gI1 q9 rfl ?_⟩
  · rw [nI_eq (by omega) (by omega)] at c
    refine wq_cw.use (by decide) (by omega) (by omega) (n_One hb zb) ?_
    rintro h' ⟨tb, cb, g⟩
    exact loop h' b tb cb _ g (by rw [if_neg (fun z => c z.symm)]) _ _
  · rw [nI_eq (by omega) (by omega)] at c
    refine wq_cw.use (by decide) (by omega) (by omega) (n_One hb zb) ?_
    rintro h' ⟨tb, cb, g⟩
    exact loop h' b tb cb _ g (by rw [if_pos c.symm]) _ _
theorem wo_not {e : zs_E} {x : Nat} (h : zs_isof e x = false) : zs_wo x e = some e := by
  simp only [zs_isof, Bool.or_eq_false_iff, decide_eq_false_iff_not] at h
  simp [zs_wo, h.1, h.2]
theorem wo_one {e : zs_E} {x : Nat} (q : e.2.1 = none) (h : zs_isof e x = true) : zs_wo x e = none := by
  simp only [zs_isof, q, reduceCtorEq, decide_false, Bool.or_false, decide_eq_true_eq] at h
  simp [zs_wo, h, q]
theorem c_tforgets (hk : kon G h) (k : tz G h P t T) (hP : ∀ b, P b → G.1 ≤ b) (hT : zs_ok L N T) (hL : L ≤ 6) {x : Nat} (hx6 : x < 6) : wq_C G l 5 24 96 mX7_forgets [.ref t, .int (nI x)] h (wq_qv fun h' => tz G h' (fun b => P b ∨ nw G h b) t (T.filterMap (zs_wo x)) ∧ hx P h h') := by
  have h8 := hT.1
  have hQ : ∀ b, (P b ∨ nw G h b) → G.1 ≤ b := fun b hb => hb.elim (hP b) (fun z => z.2)
  generalize hK : (fun (h' : wq_H) => tz G h' (fun b => P b ∨ nw G h b) t (T.filterMap (zs_wo x)) ∧ hx P h h') = K
  have loop : ∀ k, k ≤ T.length → ∀ (h1 : wq_H) (C S : Nat), k * 3 ≤ C → k * 12 ≤ S → tz G h1 (fun b => P b ∨ nw G h b) t (wok x T k) → hx P h h1 → wq_T G l 5 mX7_forgets (wq_qv K) 7 [some (.ref t), some (.int (nI x)), some (.int (iI ((k : Int) - 1))), none] [] h1 C S := by
    intro k
    induction k with
    | zero =>
      intro _ h1 C S _ _ q1 q2
      subst hK
      rw [wok_0] at q1
      exact vX7_forgets_7 ⟨fun _ => ⟨q1, q2⟩, fun c => absurd (by decide) c⟩
    | succ k ih =>
      intro hkl h1 C S hC hS q1 q2
      have hkl : k < T.length := by omega
      obtain ⟨li, j, sa, ta, ca, tx⟩ := tz_x.mp q1
      obtain ⟨ba, ht⟩ := tx.at
      obtain ⟨w1, w2⟩ := wok_get (l := x) hkl
      have hat : zs_at (wok x T (k + 1)) k = zs_at T k := zs_at_eq w1
      have hs := ht.2.2 k w2
      rw [hat] at hs
      have o6 := ok6 hT hL hkl
      have g := tx.2.2.2.1 k w2
      have hk1 : kon G h1 := hk.hx q2 hP
      have e0 : iI (((k + 1 : Nat) : Int) - 1) = nI k := by rw [nI_iI]; congr 1; omega
      rw [e0]
      have next : ∀ (h2 : wq_H) (C2 S2 : Nat), C - 3 ≤ C2 → S - 12 ≤ S2 → tz G h2 (fun b => P b ∨ nw G h b) t (wok x T k) → hx P h h2 → wq_T G l 5 mX7_forgets (wq_qv K) 7 [some (.ref t), some (.int (nI x)), some (.int (nI k + -1)), none] [] h2 C2 S2 := by
        intro h2 C2 S2 c1 c2 y1 y2
        have e1 : nI k + -1 = iI ((k : Int) - 1) := by
          rw [nI_iI, show (-1 : Int32) = iI (-1) from rfl, iI_add]; rfl
        rw [e1]
        exact ih (by omega) h2 C2 S2 (by omega) (by omega) y1 y2
      have up : ∀ h2, hx (fun b => (P b ∨ nw G h b) ∧ lk (h1 b)) h1 h2 → hx P h h2 := fun h2 y => q2.trans y fun b hb => hb.1.imp id fun z => z.1
      obtain ⟨hl1, hl2⟩ : ob h1 li ∧ ∀ y ∈ (List.range (wok x T (k + 1)).length).map sa, ob h1 y := by
        refine ⟨?_, fun y hy => ?_⟩
        · obtain ⟨m, b, f, -, y2, -⟩ := tx.2.2.1
          exact ⟨_, _, y2⟩
        · simp only [List.mem_map, List.mem_range] at hy
          obtain ⟨i, hi, rfl⟩ := hy
          exact as_ob (tx.2.2.2.1 i hi).2.2.2
      have hget : ((List.range (wok x T (k + 1)).length).map sa)[k]? = some (sa k) := by rw [List.getElem?_map, List.getElem?_range w2]; rfl
      refine vX7_forgets_7 ⟨fun c => absurd c (nI_pos (by omega)), fun _ => u_set ht w2 (by decide) ⟨_, rfl, v_isOf hs o6.1 o6.2 hx6 (by decide) ⟨fun c => u_set ht w2 (by decide) ⟨_, rfl, as_v hs (fun q => ?_) (fun b q => ?_)⟩, fun c => ?_⟩⟩⟩
      · rw [b2i_0, Bool.not_eq_false] at c
        refine wq_cq.eq (d' := 0) (by decide) (v := none) (wq_C.of pn_X10 (Nat.le_of_ble_eq_true rfl) rfl (vX10_without_0 ⟨rfl, rfl⟩)) ⟨fun _ => gR1 tx.2.1 rfl ?_, fun a z => by cases z⟩
        obtain ⟨ci, fs, hl1⟩ := hl1
        obtain ⟨m, b0, f0, -, y2, -⟩ := id tx.2.2.1
        refine ⟨_, y2, wq_cq.use (by decide) (Nat.zero_le _) (Nat.zero_le _) (c_lremove tx.2.2.1.kind (fun b hb => hQ b hb.1) hl2 hget) ?_⟩
        rintro r h2 ⟨-, y3, y4⟩
        refine next h2 _ _ (by omega) (by omega) ?_ (up h2 y4)
        rw [← wok_none hkl (wo_one q c)]
        exact tx.erase (hk1.hx y4 fun b hb => hQ b hb.1) w2 (y3.mono fun b hb => hb.1) y4
      · rw [b2i_0, Bool.not_eq_false] at c
        refine wq_cq.use (by decide) (by omega) (by omega) (c_without11 hs q o6.1 (o6.2 b q) (hQ _ g.2.1) hx6 c) ?_
        rintro r h2 ⟨nb, tb, cb, e', rfl, ew, f1, f2, f3, f4, f5, f6⟩
        refine ⟨fun z => (by cases z), fun a z => ?_⟩
        cases z
        obtain ⟨li', j', sa', ta', ca', tx2⟩ : ∃ li' j' sa' ta' ca', tzx G h2 (fun b => (P b ∨ nw G h b) ∧ h1 b ≠ none) t li' j' sa' ta' ca' (wok x T (k + 1)) :=
          tz_x.mp (q1.live.frame (hk1.hx f6 fun _ z => z.elim) fun b e _ he => f6.1 b e id he)
        obtain ⟨m, b0, f0, -, y2, -⟩ := id tx2.2.2.1
        have hget2 : ((List.range (wok x T (k + 1)).length).map sa')[k]? = some (sa' k) := by rw [List.getElem?_map, List.getElem?_range w2]; rfl
        refine gR1 tx2.2.1 rfl ⟨_, y2, wq_cq.use (by decide) (Nat.zero_le _) (Nat.zero_le _) (c_lset tx2.2.2.1.kind (fun b hb => hQ b hb.1.1) hget2 (as_ob f5)) ?_⟩
        rintro r h3 ⟨-, y3, y4⟩
        have u1 := nw_up (G := G) q2
        refine next h3 _ _ (by omega) (by omega) ?_ ((q2.trans f6 fun _ z => z.elim).trans y4 fun b hb => hb.1.1.imp id fun z => z.1)
        rw [← wok_some hkl ew]
        exact tx2.repl (fun b hb => hb.1) w2 f5 (fun z => z.2 f2.1) (fun z => z.2 f3.1) f4 (Or.inr (u1 _ f1)) (Or.inr (u1 _ f2)) (Or.inr (u1 _ f3)) (y3.mono fun b hb => hb.1) y4
      · rw [b2i_0] at c
        refine next h1 C S (by omega) (by omega) ?_ q2
        rw [← wok_keep hkl (wo_not c)]
        exact q1
  obtain ⟨li, ba, sa, ta, ca, ht⟩ := k.at
  refine wq_C.of pn_X7 (Nat.le_of_ble_eq_true rfl) rfl (vX7_forgets_0 (u_size ht (by decide) ?_))
  have e1 : nI T.length - 1 = iI ((T.length : Int) - 1) := by
    rw [nI_iI, iI_lit 1, iI_sub]; rfl
  rw [e1]
  exact loop T.length (Nat.le_refl _) h 24 96 (by omega) (by omega) (by rw [wok_all]; exact k.mono fun b hb => Or.inl hb) hx.refl
end CP7
