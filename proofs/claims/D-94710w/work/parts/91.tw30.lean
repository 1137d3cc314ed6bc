/-! CONTRACTS of the reference: names told, new names, the law's line -/
set_option maxRecDepth 100000
/-- a look's or a point's number, or a fault -/
def rf_w (s0 : tw_S) (s : tw_S) (r : Int32) (s' : tw_S) (X : rd_X Nat) : Prop := match X with
  | .ok k => r = nI k ∧ s' = s
  | .error e => rf_e s0 s' e
theorem nm_lt {look : Bool} {but k : Nat} {q : rd_Q} (h : rd_nm look but q = .ok k) : k < (if look then q.2.2.1 else q.2.2.2.1).length ∧ but.testBit k = false := by
  unfold rd_nm at h
  generalize (if look = true then q.2.2.1 else q.2.2.2.1) = row at h
  by_cases c : rd_isn q = true
  · rw [if_pos c] at h
    cases e : row.findIdx? (fun w => decide (w = q.1.2.2.2.1)) with
    | none => rw [e] at h; cases h
    | some j =>
      rw [e] at h
      simp only at h
      by_cases c2 : but.testBit j = true
      · rw [if_pos c2] at h; cases h
      · rw [if_neg c2] at h
        cases h
        exact ⟨(List.findIdx?_eq_some_iff_getElem.mp e).1, by simpa using c2⟩
  · rw [if_neg c] at h; cases h
section TW30
variable {G : wq_G} {l : Launch} {o : Nat} {ad : Nat → Nat} {h : wq_H} {s s0 : tw_S} {tp : Nat → Nat} {n : Nat} {q : rd_Q}
theorem t_named (ok : tw_ok G o ad) (sc : sc_ok G h) (hr : rf_r s0 tp n s q) (look : Bool) {but : Nat} (hb : but < 2 ^ 31) : wq_C G l 6 0 0 mX3_named [.ref o, .int (b2i look), .int (nI but)] (tw_h G o ad s h) (tw_qi G o ad h fun r s' => rf_w s0 s r s' (rd_nm look but q)) := by
  obtain ⟨h1, h2, h3, h4, h5, h6, h7, h8, h9⟩ := id hr
  obtain ⟨p1, p2, p3, p4, p5, p6, p7⟩ := h9
  have p9 : q.2.2.2.1.length ≤ 9 := p6.1
  generalize hQ : (fun (r : Int32) (s' : tw_S) => rf_w s0 s r s' (rd_nm look but q)) = Q
  have fail : ∀ (f : Nat) (r : Int32) (s' : tw_S), rd_nm look but q = rd_err f q → rf_e s0 s' (f, q.1.2.1) → Q r s' := by
    intro f r s' e hs; subst hQ; rw [e]; exact hs
  refine wq_C.of pn_X3 (Nat.le_of_ble_eq_true rfl) rfl (vX3_named_0 ok ⟨fun _ => tw_cv.use (by decide) (t_mustName ok sc hr) ?_, fun c => absurd h2 c⟩)
  rintro s1 ⟨m1, m2⟩
  by_cases cn : rd_isn q = true
  · obtain rfl := m1 cn
    have k2 : q.1.1 = 2 := by
      unfold rd_isn at cn
      rw [Bool.and_eq_true] at cn
      simpa using cn.1
    refine ⟨fun _ => tw_ci.eq (by decide) (t_find ok hr k2) ?_, fun c => absurd h2 c⟩
    -- a fault behind it
    have wr2 : rd_nm look but q = rd_err 2 q → ∀ y3, tw_cv G l o ad h 6 mX3_wrong [.ref o, .int 2, .int (s1.1 4)] s1 (fun s4 => tw_T G l o ad h 6 mX3_named (tw_qi G o ad h Q) 55 [some (.ref o), some (.int (b2i look)), some (.int (nI but)), some (.int y3), none] [] s4) := by
      intro e y3
      refine tw_cv.use (by decide) (t_wrong ok hr 2) fun s' hs' => ?_
      refine vX3_named_55 ok ⟨fun c => absurd (hs'.2.1.symm.trans c) (by decide), fun _ => fail 2 _ _ e hs'⟩
    have good : ∀ (k : Nat) (y : Int32), (if look then q.2.2.1 else q.2.2.2.1).findIdx? (fun w => decide (w = q.1.2.2.2.1)) = some k → k < 9 → (look = true → y = nI k) → (look = false → y = nI (6 + k)) → tw_T G l o ad h 6 mX3_named (tw_qi G o ad h Q) 55 [some (.ref o), some (.int (b2i look)), some (.int (nI but)), some (.int y), none] [] s1 := by
      intro k y hk hk9 hy1 hy2
      have hres : rd_nm look but q = if but.testBit k then rd_err 3 q else .ok k := by
        unfold rd_nm; rw [if_pos cn, hk]
      have e6 : look = false → y - 6 = nI k := by
        intro e; rw [hy2 e, nI_iI, nI_iI, iI_lit 6, iI_sub]; congr 1; omega
      refine vX3_named_55 ok ⟨fun _ => ?_, fun c => absurd h2 c⟩
      have fin0 : but.testBit k = false → Q (nI k) s1 := by
        intro e; subst hQ; rw [hres, if_neg (by rw [e]; decide)]; exact ⟨rfl, rfl⟩
      have fin1 : but.testBit k = true → ∀ r, tw_cv G l o ad h 6 mX3_wrong [.ref o, .int 3, .int (s1.1 4)] s1 (fun s' => Q r s') := by
        intro e r
        refine tw_cv.use (by decide) (t_wrong ok hr 3) fun s' hs' => fail 3 _ _ ?_ hs'
        rw [hres, if_pos e]
      cases look with
      | false =>
        refine ⟨fun _ => ?_, fun c => absurd rfl c⟩
        rw [e6 rfl]
        refine tw_ci.eq (by decide) (t_has ok 0 hb (by omega)) ?_
        rw [b2i_0]
        exact ⟨fun c => fin0 c, fun c => fin1 (by simpa using c) _⟩
      | true =>
        refine ⟨fun c => absurd c (by decide), fun _ => ?_⟩
        rw [hy1 rfl]
        refine tw_ci.eq (by decide) (t_has ok 0 hb (by omega)) ?_
        rw [b2i_0]
        exact ⟨fun c => fin0 c, fun c => fin1 (by simpa using c) _⟩
    have none_res : (if look then q.2.2.1 else q.2.2.2.1).findIdx? (fun w => decide (w = q.1.2.2.2.1)) = none → rd_nm look but q = rd_err 2 q := by
      intro e; unfold rd_nm; rw [if_pos cn, e]
    unfold rd_fn
    cases eL : q.2.2.1.findIdx? (fun w => decide (w = q.1.2.2.2.1)) with
    | some k =>
      have hk := (List.findIdx?_eq_some_iff_getElem.mp eL).1
      obtain ⟨hk', hkw, -⟩ := List.findIdx?_eq_some_iff_getElem.mp eL
      simp only
      refine ⟨fun c => absurd c (nI_pos (by omega)), fun _ => ?_⟩
      rw [nI_lit 6, nI_leI (by omega) (by omega)]
      refine ⟨fun c => by omega, fun _ => ?_⟩
      cases look with
      | true => exact ⟨fun _ => good k _ (by simpa using eL) (by omega) (fun _ => rfl) (fun c => absurd c (by decide)), fun c => absurd rfl c⟩
      | false =>
        refine ⟨fun c => absurd c (by decide), fun _ => wr2 (none_res ?_) _⟩
        refine fi_none (fun j e => ?_)
        have hw : q.1.2.2.2.1 ∈ q.2.2.1 := by
          have : q.2.2.1[k] = q.1.2.2.2.1 := by simpa using hkw
          rw [← this]; exact List.getElem_mem hk'
        exact p7 _ hw (List.mem_of_getElem? e)
    | none =>
      simp only
      cases eP : q.2.2.2.1.findIdx? (fun w => decide (w = q.1.2.2.2.1)) with
      | some k =>
        have hk := (List.findIdx?_eq_some_iff_getElem.mp eP).1
        simp only
        refine ⟨fun c => absurd c (nI_pos (by omega)), fun _ => ?_⟩
        rw [nI_lit 6, nI_leI (by omega) (by omega)]
        refine ⟨fun _ => ?_, fun c => by omega⟩
        cases look with
        | true => exact ⟨fun c => absurd c (by decide), fun _ => wr2 (none_res (by simpa using eL)) _⟩
        | false => exact ⟨fun _ => good k _ (by simpa using eP) (by omega) (fun c => absurd c (by decide)) (fun _ => rfl), fun c => absurd rfl c⟩
      | none =>
        simp only
        refine ⟨fun _ => wr2 (none_res ?_) _, fun c => absurd (by decide) c⟩
        cases look
        · simpa using eP
        · simpa using eL
  · simp only [Bool.not_eq_true] at cn
    have hs := m2 cn
    refine ⟨fun c => absurd (hs.2.1.symm.trans c) (by decide), fun _ => fail 1 _ _ ?_ hs⟩
    unfold rd_nm; rw [if_neg (by rw [cn]; decide)]
theorem t_named_e (ok : tw_ok G o ad) (h13 : s.1 13 = 1) (x y : Int32) : wq_C G l 0 0 0 mX3_named [.ref o, .int x, .int y] (tw_h G o ad s h) (tw_qi G o ad h fun r s' => r = 0 ∧ s' = s) :=
  wq_C.of pn_X3 (Nat.le_of_ble_eq_true rfl) rfl (vX3_named_0 ok ⟨fun c => absurd (h13.symm.trans c) (by decide), fun _ => ⟨rfl, rfl⟩⟩)
theorem t_passed (ok : tw_ok G o ad) (sc : sc_ok G h) {X : rd_X rd_Q} (hx : rf_x s0 tp n s X) (look : Bool) {but : Nat} (hb : but < 2 ^ 31) : wq_C G l 7 0 0 mX3_passed [.ref o, .int (b2i look), .int (nI but)] (tw_h G o ad s h) (tw_qi G o ad h fun r s' => rf_v s0 tp n r s' (X.bind (rd_pn tp n look but))) := by
  cases X with
  | error e =>
    have hx : rf_e s0 s e := hx
    refine wq_C.of pn_X3 (Nat.le_of_ble_eq_true rfl) rfl (vX3_passed_0 ok (tw_ci.eq (by decide) (t_named_e ok hx.2.1 _ _) ⟨fun _ => hx, fun c => absurd (hx.2.1.symm.trans c) (by decide)⟩))
  | ok q =>
    have hr : rf_r s0 tp n s q := hx
    refine wq_C.of pn_X3 (Nat.le_of_ble_eq_true rfl) rfl (vX3_passed_0 ok (tw_ci.use (by decide) (t_named ok sc hr look hb) ?_))
    intro r s1 hw
    show _ ∧ _
    have eb : (Except.ok q : rd_X rd_Q).bind (rd_pn tp n look but) = rd_pn tp n look but q := rfl
    rw [eb]
    unfold rd_pn
    cases e : rd_nm look but q with
    | error er =>
      rw [e] at hw
      have hw : rf_e s0 s1 er := hw
      exact ⟨fun _ => hw, fun c => absurd (hw.2.1.symm.trans c) (by decide)⟩
    | ok k =>
      rw [e] at hw
      obtain ⟨rfl, rfl⟩ : r = nI k ∧ s1 = s := hw
      refine ⟨fun c => absurd hr.2.1 c, fun _ => tw_cv.use (by decide) (t_adv ok hr) fun s' hs' => ?_⟩
      exact ⟨rfl, hs'⟩
/-- the row of names that grows -/
abbrev rd_row (look : Bool) (q : rd_Q) : List (List Nat) := if look then q.2.2.1 else q.2.2.2.1
theorem pok_put {look : Bool} (hp : pok q) (hk : rk_ok n q.1) (h2 : q.1.1 = 2) (hc : (q.2.2.1 ++ q.2.2.2.1).contains q.1.2.2.2.1 = false) (hm : (rd_row look q).length < if look then 6 else 9) : pok (rd_put look q) := by
  obtain ⟨p1, p2, p3, p4, p5, p6, p7⟩ := hp
  obtain ⟨t1, t2, t3⟩ := hk.2.2.2.1 h2
  have hn : q.1.2.2.2.1 ∉ q.2.2.1 ++ q.2.2.2.1 := by
    intro q1
    rw [List.contains_iff_mem.mpr q1] at hc
    cases hc
  rw [List.mem_append, not_or] at hn
  have w128 : ∀ c ∈ q.1.2.2.2.1, c < 128 := fun c hc => by have := t3 c hc; omega
  cases look with
  | true =>
    have hm : q.2.2.1.length < 6 := hm
    have hl : (q.2.2.1 ++ [q.1.2.2.2.1]).length = q.2.2.1.length + 1 := by simp
    refine ⟨p1, by show (q.2.2.1 ++ [_]).length ≤ 6; omega, fun w hw => ?_, p4, ?_, ?_, fun w hw => ?_⟩
    · have hw : w ∈ (q.2.2.1 ++ [q.1.2.2.2.1]) ++ q.2.2.2.1 := hw
      simp only [List.mem_append, List.mem_singleton] at hw
      rcases hw with (hw | rfl) | hw
      · exact p3 w (List.mem_append_left _ hw)
      · exact ⟨t1, t2, w128⟩
      · exact p3 w (List.mem_append_right _ hw)
    · show zs_ok (q.2.2.1 ++ [_]).length _ _
      exact zs_ok_mono p5 (by omega)
    · show zs_bok (q.2.2.1 ++ [_]).length (rd_B q)
      exact zs_bok_mono p6 (by omega) (Nat.le_refl _) p6.1
    · have hw : w ∈ q.2.2.1 ++ [q.1.2.2.2.1] := hw
      show w ∉ q.2.2.2.1
      simp only [List.mem_append, List.mem_singleton] at hw
      rcases hw with hw | rfl
      · exact p7 w hw
      · exact hn.2
  | false =>
    have hm : q.2.2.2.1.length < 9 := hm
    have hl : (q.2.2.2.1 ++ [q.1.2.2.2.1]).length = q.2.2.2.1.length + 1 := by simp
    refine ⟨p1, p2, fun w hw => ?_, p4, p5, ?_, fun w hw => ?_⟩
    · have hw : w ∈ q.2.2.1 ++ (q.2.2.2.1 ++ [q.1.2.2.2.1]) := hw
      simp only [List.mem_append, List.mem_singleton] at hw
      rcases hw with hw | hw | rfl
      · exact p3 w (List.mem_append_left _ hw)
      · exact p3 w (List.mem_append_right _ hw)
      · exact ⟨t1, t2, w128⟩
    · show zs_bok _ ((q.2.2.2.1 ++ [_]).length, (rd_B q).2)
      exact zs_bok_mono p6 (Nat.le_refl _) (by show q.2.2.2.1.length ≤ _; omega) (by omega)
    · show w ∉ q.2.2.2.1 ++ [q.1.2.2.2.1]
      have hw : w ∈ q.2.2.1 := hw
      simp only [List.mem_append, List.mem_singleton, not_or]
      exact ⟨p7 w hw, fun e => hn.1 (by rw [← e]; exact hw)⟩
/-- arrays with a new name in them -/
theorem tf_put {a a' : Nat → Int32} {look : Bool} {w : List Nat} (hw : q.1.2.2.2.1 = w) (hp : pok q) (h : tf a q) (hl8 : w.length ≤ 8) (hm : (rd_row look q).length < if look then 6 else 9) (f : Nat) (hf : f = (if look then 0 else 6) + (rd_row look q).length) (e : ∀ p, used q p → p ≠ 211 + f → p ≠ (if look then 50 else 51) → a' p = a p) (e1 : a' (211 + f) = nI w.length) (e2 : a' (if look then 50 else 51) = nI ((rd_row look q).length + 1)) (e3 : ∀ k x, w[k]? = some x → a' (226 + 8 * f + k) = nI x) : tf a' (rd_put look q) := by
  obtain ⟨p1, p2, p3, p4, p5, p6, p7⟩ := id hp
  have p9 : q.2.2.2.1.length ≤ 9 := p6.1
  have s8 : q.2.2.2.2.1.length ≤ 8 := p5.1
  have b8 : q.2.2.2.2.2.1.length ≤ 8 := p6.2.1
  have r18 : q.2.2.2.2.2.2.1.length ≤ 18 := p6.2.2.2.1
  have u4 : q.2.2.2.2.2.2.2.length ≤ 4 := p6.2.2.2.2.2.1
  have hf15 : f < 15 := by
    cases look with
    | true =>
      have h1 : q.2.2.1.length < 6 := hm
      have h2 : f = 0 + q.2.2.1.length := hf
      omega
    | false =>
      have h1 : q.2.2.2.1.length < 9 := hm
      have h2 : f = 6 + q.2.2.2.1.length := hf
      omega
  -- all but the new name and the count as before
  have hb : tf (fun p => if p = 211 + f then a p else if p = (if look then 50 else 51) then a p else a' p) q := by
    refine tf_cong hp h fun p hu => ?_
    by_cases c1 : p = 211 + f
    · rw [if_pos c1]
    · rw [if_neg c1]
      by_cases c2 : p = (if look = true then 50 else 51)
      · rw [if_pos c2]
      · rw [if_neg c2]; exact e p hu c1 c2
  generalize hb' : (fun p => if p = 211 + f then a p else if p = (if look then 50 else 51) then a p else a' p) = b at hb
  have eb : ∀ p, p ≠ 211 + f → p ≠ (if look then 50 else 51) → a' p = b p := by
    intro p c1 c2; subst hb'; dsimp only; rw [if_neg c1, if_neg c2]
  obtain ⟨g1, g2, g3, g4, g5, g6, g7, g8, g9⟩ := hb
  have tabs : ta_tab a' q.2.2.2.2.1 := by
    refine ⟨by rw [eb 0 (by omega) (by split <;> omega)]; exact g7.1, fun k x hx => ?_⟩
    have hk := (List.getElem?_eq_some_iff.mp hx).1
    have ho := zs_out_le x
    obtain ⟨x1, x2, x3⟩ := g7.2 k x hx
    refine ⟨by rw [eb _ (by omega) (by split <;> omega)]; exact x1, by rw [eb _ (by omega) (by split <;> omega)]; exact x2, fun o hoo => by rw [eb _ (by omega) (by split <;> omega)]; exact x3 o hoo⟩
  have tbs : ∀ P : Nat, a' 51 = nI P → tb_a a' (P, (rd_B q).2) := by
    intro P hP
    obtain ⟨y1, y2, y3, y4, y5, y6, y7⟩ := g8
    have l1 : (rd_B q).2.1.length = q.2.2.2.2.2.1.length := rfl
    have l2 : (rd_B q).2.2.1.length = q.2.2.2.2.2.2.1.length := rfl
    have l3 : (rd_B q).2.2.2.length = q.2.2.2.2.2.2.2.length := rfl
    refine ⟨hP, by rw [eb 52 (by omega) (by split <;> omega)]; exact y2, fun m hm => ⟨fun k hk => ?_, ?_⟩, by rw [eb 85 (by omega) (by split <;> omega)]; exact y4, fun m hm k hk => ?_, by rw [eb 158 (by omega) (by split <;> omega)]; exact y6, fun u hu => ⟨?_, fun m x hx => ?_⟩⟩
    · have hm : m < q.2.2.2.2.2.1.length := hm
      rw [eb _ (by omega) (by split <;> omega)]; exact (y3 m hm).1 k hk
    · have hm : m < q.2.2.2.2.2.1.length := hm
      rw [eb _ (by omega) (by split <;> omega)]; exact (y3 m hm).2
    · have hm : m < q.2.2.2.2.2.2.1.length := hm
      rw [eb _ (by omega) (by split <;> omega)]; exact y5 m hm k hk
    · have hu : u < q.2.2.2.2.2.2.2.length := hu
      rw [eb _ (by omega) (by split <;> omega)]; exact (y7 u hu).1
    · have hu : u < q.2.2.2.2.2.2.2.length := hu
      have hx2 := (List.getElem?_eq_some_iff.mp hx).1
      have h6 : (zs_ru (rd_B q) u).length ≤ 6 := (p6.2.2.2.2.2.2 _ (ru_mem (B := rd_B q) hu)).1
      have hx2 : m < (zs_ru (rd_B q) u).length := hx2
      rw [eb _ (by omega) (by split <;> omega), eb _ (by omega) (by split <;> omega)]
      exact (y7 u hu).2 m x hx
  have lines0 : ∀ m, q.2.2.2.2.2.1.length ≤ m → m < 8 → a' (77 + m) = 0 := by
    intro m h1 h2
    rw [eb _ (by omega) (by split <;> omega)]; exact g9 m h1 h2
  -- a row that stays
  have nmst : ∀ (f0 : Nat) (r : List (List Nat)), (∀ w ∈ r, w.length ≤ 8) → (∀ i, i < r.length → f0 + i ≠ f) → f0 + r.length ≤ 15 → nm_a b f0 r → nm_a a' f0 r := by
    intro f0 r hr8 hne hle hnm i v hv
    have hi := (List.getElem?_eq_some_iff.mp hv).1
    obtain ⟨x1, x2⟩ := hnm i v hv
    have hv8 := hr8 v (List.mem_of_getElem? hv)
    refine ⟨by rw [eb _ (by have := hne i hi; omega) (by split <;> omega)]; exact x1, fun k x hx => ?_⟩
    have hk := (List.getElem?_eq_some_iff.mp hx).1
    rw [eb _ (by have := hne i hi; omega) (by split <;> omega)]; exact x2 k x hx
  have nmnew : ∀ (f0 : Nat) (r : List (List Nat)), f = f0 + r.length → nm_a a' f0 r → nm_a a' f0 (r ++ [w]) := by
    intro f0 r hfr hnm i v hv
    by_cases ci : i < r.length
    · rw [List.getElem?_append_left ci] at hv; exact hnm i v hv
    · have hl := (List.getElem?_eq_some_iff.mp hv).1
      simp at hl
      obtain rfl : i = r.length := by omega
      simp at hv
      subst hv
      rw [← hfr]
      exact ⟨e1, e3⟩
  have n8L : ∀ w ∈ q.2.2.1, w.length ≤ 8 := fun w hw => (p3 w (List.mem_append_left _ hw)).2.1
  have n8P : ∀ w ∈ q.2.2.2.1, w.length ≤ 8 := fun w hw => (p3 w (List.mem_append_right _ hw)).2.1
  cases look with
  | true =>
    have hm : q.2.2.1.length < 6 := hm
    have hf : f = q.2.2.1.length := by rw [hf]; exact Nat.zero_add _
    refine ⟨by rw [eb 49 (by omega) (by decide)]; exact g1, ?_, ?_, ?_, fun i h1 h2 => ?_, fun i h1 h2 => ?_, tabs, tbs _ (by rw [eb 51 (by omega) (by decide)]; exact g8.1), lines0⟩
    · show a' 50 = nI (q.2.2.1 ++ [_]).length
      rw [List.length_append]; exact e2
    · show nm_a a' 0 (q.2.2.1 ++ [q.1.2.2.2.1])
      rw [hw]
      exact nmnew 0 q.2.2.1 (by omega) (nmst 0 q.2.2.1 n8L (fun i hi => by omega) (by omega) g3)
    · exact nmst 6 q.2.2.2.1 n8P (fun i hi => by omega) (by omega) g4
    · have h1 : (q.2.2.1 ++ [q.1.2.2.2.1]).length ≤ i := h1
      simp at h1
      rw [eb _ (by omega) (by simp; omega)]; exact g5 i (by omega) h2
    · rw [eb _ (by omega) (by simp; omega)]; exact g6 i h1 h2
  | false =>
    have hm : q.2.2.2.1.length < 9 := hm
    have hf : f = 6 + q.2.2.2.1.length := hf
    refine ⟨by rw [eb 49 (by omega) (by decide)]; exact g1, by rw [eb 50 (by omega) (by decide)]; exact g2, ?_, ?_, fun i h1 h2 => ?_, fun i h1 h2 => ?_, tabs, tbs _ ?_, lines0⟩
    · exact nmst 0 q.2.2.1 n8L (fun i hi => by omega) (by omega) g3
    · show nm_a a' 6 (q.2.2.2.1 ++ [q.1.2.2.2.1])
      rw [hw]
      exact nmnew 6 q.2.2.2.1 (by omega) (nmst 6 q.2.2.2.1 n8P (fun i hi => by omega) (by omega) g4)
    · rw [eb _ (by omega) (by simp; omega)]; exact g5 i h1 h2
    · have h1 : (q.2.2.2.1 ++ [q.1.2.2.2.1]).length ≤ i := h1
      simp at h1
      rw [eb _ (by omega) (by simp; omega)]; exact g6 i (by omega) h2
    · show a' 51 = nI (q.2.2.2.1 ++ [_]).length
      rw [List.length_append]; exact e2
end TW30
