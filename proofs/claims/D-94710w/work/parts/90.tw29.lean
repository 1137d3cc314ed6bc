/-! CONTRACTS of the reference: names found, new names, the law's line -/
set_option maxRecDepth 100000
theorem fi_some {l : List (List Nat)} {w : List Nat} {i : Nat} (h : l[i]? = some w) (hn : ∀ j, j < i → l[j]? ≠ some w) : l.findIdx? (fun v => decide (v = w)) = some i := by
  induction l generalizing i with
  | nil => cases h
  | cons x l ih =>
    rw [List.findIdx?_cons]
    cases i with
    | zero =>
      simp only [List.getElem?_cons_zero, Option.some.injEq] at h
      rw [if_pos (by simpa using h)]
    | succ i =>
      have h0 := hn 0 (by omega)
      simp only [List.getElem?_cons_zero, ne_eq, Option.some.injEq] at h0
      rw [if_neg (by simpa using h0), ih (i := i) (by simpa using h) (fun j hj => by have := hn (j + 1) (by omega); simpa using this)]
      rfl
theorem fi_none {l : List (List Nat)} {w : List Nat} (hn : ∀ j : Nat, l[j]? ≠ some w) : l.findIdx? (fun v => decide (v = w)) = none := by
  rw [List.findIdx?_eq_none_iff]
  intro x hx
  obtain ⟨i, hi⟩ := List.getElem?_of_mem hx
  simp only [decide_eq_false_iff_not]
  intro e
  exact hn i (by rw [hi, e])
/-- the n-th name: looks first, points from 6 on -/
def rd_n (q : rd_Q) (i : Nat) : Option (List Nat) := if i < 6 then q.2.2.1[i]? else q.2.2.2.1[i - 6]?
def rd_fn (q : rd_Q) : Int32 := match q.2.2.1.findIdx? (fun w => decide (w = q.1.2.2.2.1)) with
  | some k => nI k
  | none => match q.2.2.2.1.findIdx? (fun w => decide (w = q.1.2.2.2.1)) with
    | some k => nI (6 + k)
    | none => -1
theorem zs_ok_mono {L L' N : Nat} {T : zs_T} (h : zs_ok L N T) (hl : L ≤ L') : zs_ok L' N T :=
  ⟨h.1, fun e he => by
    obtain ⟨h1, h2, h3, h4⟩ := h.2 e he
    exact ⟨by omega, fun b hb => ⟨by have := (h2 b hb).1; omega, (h2 b hb).2⟩, h3, h4⟩⟩
theorem zs_bok_mono {L L' P : Nat} {B : zs_B} (h : zs_bok L B) (hl : L ≤ L') (hP : B.1 ≤ P) (hP9 : P ≤ 9) : zs_bok L' (P, B.2) := by
  obtain ⟨h1, h2, h3, h4, h5, h6, h7⟩ := h
  refine ⟨hP9, h2, fun q hq => ?_, h4, h5, h6, fun q hq => ⟨(h7 q hq).1, fun x hx => ⟨by have := ((h7 q hq).2 x hx).1; omega, ((h7 q hq).2 x hx).2⟩⟩⟩
  obtain ⟨g1, g2, g3, g4⟩ := h3 q hq
  exact ⟨by omega, by omega, by omega, g4⟩
section TW29
variable {G : wq_G} {l : Launch} {o : Nat} {ad : Nat → Nat} {h : wq_H} {s s0 : tw_S} {tp : Nat → Nat} {n : Nat} {q : rd_Q}
theorem t_find (ok : tw_ok G o ad) (hr : rf_r s0 tp n s q) (h2k : q.1.1 = 2) : wq_C G l 0 0 0 mX3_find [.ref o] (tw_h G o ad s h) (tw_qi G o ad h fun r s' => r = rd_fn q ∧ s' = s) := by
  obtain ⟨h1, h2, h3, h4, h5, h6, h7, h8, h9⟩ := id hr
  obtain ⟨k1, k2⟩ := h6.2.2.2.2 h2k
  obtain ⟨t1, t2, t3⟩ := h7.2.2.2.1 h2k
  obtain ⟨f1, f2, f3, f4, f5, f6, f7, f8, f9⟩ := h8
  obtain ⟨p1, p2, p3, p4, p5, p6, p7⟩ := h9
  have p9 : q.2.2.2.1.length ≤ 9 := p6.1
  generalize hw : q.1.2.2.2.1 = w at *
  generalize hQ : (fun (r : Int32) (s' : tw_S) => r = rd_fn q ∧ s' = s) = Q
  refine wq_C.of pn_X3 (Nat.le_of_ble_eq_true rfl) rfl (vX3_find_0 ok ?_)
  -- a name as it lies there
  have none_at : ∀ i, i < 15 → rd_n q i = none → s.2.1 16 (211 + i) = 0 := by
    intro i hi hn
    unfold rd_n at hn
    by_cases c : i < 6
    · rw [if_pos c] at hn
      exact f5 i (List.getElem?_eq_none_iff.mp hn) c
    · rw [if_neg c] at hn
      have := f6 (i - 6) (List.getElem?_eq_none_iff.mp hn) (by omega)
      rw [show 217 + (i - 6) = 211 + i by omega] at this
      exact this
  have some_at : ∀ i v, i < 15 → rd_n q i = some v → (1 ≤ v.length ∧ v.length ≤ 8 ∧ ∀ c ∈ v, c < 128) ∧ s.2.1 16 (211 + i) = nI v.length ∧ ∀ k x, v[k]? = some x → s.2.1 16 (226 + 8 * i + k) = nI x := by
    intro i v hi hn
    unfold rd_n at hn
    by_cases c : i < 6
    · rw [if_pos c] at hn
      have := f3 i v hn
      rw [Nat.zero_add] at this
      exact ⟨p3 v (List.mem_append_left _ (List.mem_of_getElem? hn)), this⟩
    · rw [if_neg c] at hn
      have := f4 (i - 6) v hn
      rw [show 6 + (i - 6) = i by omega] at this
      exact ⟨p3 v (List.mem_append_right _ (List.mem_of_getElem? hn)), this⟩
  have hit : ∀ i, i < 15 → (∀ m, m < i → rd_n q m ≠ some w) → rd_n q i = some w → rd_fn q = nI i := by
    intro i hi hm hn
    unfold rd_fn
    rw [hw]
    by_cases c : i < 6
    · unfold rd_n at hn; rw [if_pos c] at hn
      rw [fi_some hn (fun j hj => by have := hm j hj; unfold rd_n at this; rw [if_pos (by omega)] at this; exact this)]
    · unfold rd_n at hn; rw [if_neg c] at hn
      have e1 : q.2.2.1.findIdx? (fun v => decide (v = w)) = none := fi_none (fun j => by
        by_cases cj : j < 6
        · have := hm j (by omega); unfold rd_n at this; rw [if_pos cj] at this; exact this
        · rw [List.getElem?_eq_none (by omega)]; simp)
      have e2 : q.2.2.2.1.findIdx? (fun v => decide (v = w)) = some (i - 6) := fi_some hn (fun j hj => by
        have := hm (6 + j) (by omega); unfold rd_n at this; rw [if_neg (by omega), Nat.add_sub_cancel_left] at this; exact this)
      rw [e1, e2]
      show nI (6 + (i - 6)) = nI i
      rw [show 6 + (i - 6) = i by omega]
  have miss : (∀ m, m < 15 → rd_n q m ≠ some w) → rd_fn q = -1 := by
    intro hm
    unfold rd_fn
    rw [hw]
    have e1 : q.2.2.1.findIdx? (fun v => decide (v = w)) = none := fi_none (fun j => by
      by_cases cj : j < 6
      · have := hm j (by omega); unfold rd_n at this; rw [if_pos cj] at this; exact this
      · rw [List.getElem?_eq_none (by omega)]; simp)
    have e2 : q.2.2.2.1.findIdx? (fun v => decide (v = w)) = none := fi_none (fun j => by
      by_cases cj : j < 9
      · have := hm (6 + j) (by omega); unfold rd_n at this; rw [if_neg (by omega), Nat.add_sub_cancel_left] at this; exact this
      · rw [List.getElem?_eq_none (by omega)]; simp)
    rw [e1, e2]
  have key : ∀ m i, i + m = 15 → (∀ m, m < i → rd_n q m ≠ some w) → tw_T G l o ad h 0 mX3_find (tw_qi G o ad h Q) 2 [some (.ref o), some (.int (nI i)), none, none] [] s := by
    intro m
    induction m with
    | zero =>
      intro i hi hm
      obtain rfl : i = 15 := by omega
      refine vX3_find_2 ok ⟨fun _ => ?_, fun c => absurd (by decide) c⟩
      subst hQ
      exact ⟨(miss hm).symm, rfl⟩
    | succ m ih =>
      intro i hi hm
      have i211 : (211 : Int32) + nI i = nI (211 + i) := by rw [nI_lit 211, nI_add]
      have next : rd_n q i ≠ some w → tw_T G l o ad h 0 mX3_find (tw_qi G o ad h Q) 2 [some (.ref o), some (.int (nI i + 1)), none, none] [] s := by
        intro hne
        rw [nI_1]
        refine ih (i + 1) (by omega) fun k hk => ?_
        by_cases e : k = i
        · subst e; exact hne
        · exact hm k (by omega)
      have no : ∀ j : Nat, j ≤ 8 → rd_n q i ≠ some w → tw_T G l o ad h 0 mX3_find (tw_qi G o ad h Q) 46 [some (.ref o), some (.int (nI i)), some (.int 0), some (.int (nI j))] [] s := fun j hj hne =>
        vX3_find_46 ok ⟨fun _ => ⟨fun _ => next hne, fun c => absurd rfl c⟩, fun _ => ⟨fun _ => ⟨fun _ => next hne, fun c => absurd rfl c⟩, fun c => absurd rfl c⟩⟩
      refine vX3_find_2 ok ⟨fun c => ?_, fun _ => tw_ld_n _ i211 (by show _ < 346; omega) ?_⟩
      · rw [nI_lit 15, nI_leI (by omega) (by omega)] at c
        omega
      · cases hv : rd_n q i with
        | none =>
          rw [none_at i (by omega) hv]
          exact ⟨fun _ => no 0 (by omega) (by rw [hv]; simp), fun c => absurd (by decide) c⟩
        | some v =>
          obtain ⟨⟨v1, v8, vc⟩, g1, g2⟩ := some_at i v (by omega) hv
          rw [g1]
          refine ⟨fun c => ?_, fun _ => tw_ld_n _ i211 (by show _ < 346; omega) ?_⟩
          · have c : nI v.length ≤ nI 0 := c
            rw [nI_leI (by omega) (by omega)] at c
            omega
          · rw [g1, k1, nI_eq (by omega) (by omega)]
            refine ⟨fun c => no 0 (by omega) (fun e => c (by rw [hv] at e; cases e; rfl)), fun cl => ?_⟩
            have cmp : ∀ m j, j + m = w.length → (∀ k, k < j → v[k]? = w[k]?) → tw_T G l o ad h 0 mX3_find (tw_qi G o ad h Q) 46 [some (.ref o), some (.int (nI i)), some (.int 1), some (.int (nI j))] [] s := by
              intro m
              induction m with
              | zero =>
                intro j hj heq
                obtain rfl : j = w.length := by omega
                refine vX3_find_46 ok ⟨fun _ => ⟨fun c => absurd c (by decide), fun _ => ?_⟩, fun c => ?_⟩
                · have : v = w := by
                    apply List.ext_getElem?
                    intro k
                    by_cases ck : k < w.length
                    · exact heq k ck
                    · rw [List.getElem?_eq_none (by omega), List.getElem?_eq_none (by omega)]
                  subst hQ
                  exact ⟨(hit i (by omega) hm (by rw [hv, this])).symm, rfl⟩
                · rw [k1] at c
                  exact absurd (Int32.le_refl _) c
              | succ m ih2 =>
                intro j hj heq
                have hjw : j < w.length := by omega
                have hjv : j < v.length := by omega
                have gw := List.getElem?_eq_getElem hjw
                have gv := List.getElem?_eq_getElem hjv
                refine vX3_find_46 ok ⟨fun c => ?_, fun _ => ⟨fun c => absurd c (by decide), fun _ => tw_ld_n (226 + 8 * i + j) (by rw [nI_lit 226, nI_lit 8, nI_mul, nI_add, nI_add]) (by show _ < 346; omega) (tw_ld_n j rfl (by show _ < 8; omega) ?_)⟩⟩
                · rw [k1, nI_leI (by omega) (by omega)] at c
                  omega
                · rw [k2 j _ gw, g2 j _ gv, nI_1]
                  refine ⟨fun c => no (j + 1) (by omega) (fun e => ?_), fun c => ih2 (j + 1) (by omega) (fun k hk => ?_)⟩
                  · rw [hv, Option.some.injEq] at e
                    subst e
                    exact c rfl
                  · by_cases e : k = j
                    · subst e
                      have b1 := t3 _ (List.getElem_mem hjw)
                      have b2 := vc _ (List.getElem_mem hjv)
                      rw [nI_eq (by omega) (by omega)] at c
                      rw [gv, gw, c]
                    · exact heq k (by omega)
            exact cmp w.length 0 (by omega) (fun k hk => by omega)
  exact key 15 0 (by omega) (fun m hm => by omega)
end TW29
