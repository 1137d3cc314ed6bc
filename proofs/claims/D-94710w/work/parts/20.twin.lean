/-! THE REFERENCE's OBJECT (class X3): one object o and its arrays at ad k (k: the field's number), all its state in one value s : tw_S -/
set_option maxRecDepth 100000
/-- the int fields by number; the int arrays by their field's number; the long array tab; the long below -/
abbrev tw_S : Type := (Nat → Int32) × (Nat → Nat → Int32) × (Nat → Int64) × Int64
abbrev tw_as : List Nat := [1, 12, 15, 16, 17, 18, 19, 20, 21, 22, 23, 27, 28, 32, 33, 35, 38, 39]
abbrev tw_ia : List Nat := [1, 12, 15, 16, 17, 18, 19, 20, 21, 22, 23, 28, 32, 33, 35, 38, 39]
abbrev tw_len (k : Nat) : Nat := match k with
  | 1 => 900
  | 12 => 8
  | 15 => 346
  | 16 => 346
  | 17 => 32
  | 18 => 49
  | 19 => 980
  | 20 => 980
  | 21 => 196
  | 22 => 100
  | 23 => 100
  | 28 => 32
  | 32 => 3060
  | 35 => 19
  | _ => 18
def tw_fv (ad : Nat → Nat) (s : tw_S) (k : Nat) : Value := if k ∈ tw_as then .ref (ad k) else if k = 29 then .long s.2.2.2 else .int (s.1 k)
def tw_fs (ad : Nat → Nat) (s : tw_S) : List Value := (List.range 40).map (tw_fv ad s)
def tw_arr (G : wq_G) (s : tw_S) (k : Nat) : va_E := if k = 27 then .inl (G.2.2.1 1, 3298, .inr (.inl s.2.2.1)) else .inl (G.2.2.1 0, tw_len k, .inl (s.2.1 k))
def tw_h (G : wq_G) (o : Nat) (ad : Nat → Nat) (s : tw_S) (h : wq_H) : wq_H := fun a => if a = o then some (.inr (2, tw_fs ad s)) else match tw_as.find? (fun k => decide (ad k = a)) with
  | some k => some (tw_arr G s k)
  | none => h a
def tw_ok (G : wq_G) (o : Nat) (ad : Nat → Nat) : Prop := G.1 ≤ o ∧ (∀ k ∈ tw_as, G.1 ≤ ad k ∧ ad k ≠ o) ∧ ∀ j ∈ tw_as, ∀ k ∈ tw_as, ad j = ad k → j = k
def tw_pi (s : tw_S) (k : Nat) (x : Int32) : tw_S := (fun j => if j = k then x else s.1 j, s.2)
def tw_pa (s : tw_S) (k i : Nat) (x : Int32) : tw_S := (s.1, fun j => if j = k then upd (s.2.1 j) i x else s.2.1 j, s.2.2)
def tw_pl (s : tw_S) (i : Nat) (x : Int64) : tw_S := (s.1, s.2.1, vp_updL s.2.2.1 i x, s.2.2.2)
def tw_pv (s : tw_S) (x : Int64) : tw_S := (s.1, s.2.1, s.2.2.1, x)
section TW
variable {G : wq_G} {o : Nat} {ad : Nat → Nat} {s : tw_S} {h : wq_H}
theorem tw_ho : tw_h G o ad s h o = some (.inr (2, tw_fs ad s)) := by simp [tw_h]
theorem tw_find (ok : tw_ok G o ad) {k : Nat} (hk : k ∈ tw_as) : tw_as.find? (fun j => decide (ad j = ad k)) = some k := by
  cases hf : tw_as.find? (fun j => decide (ad j = ad k)) with
  | none =>
    have := List.find?_eq_none.mp hf k hk
    simp at this
  | some j =>
    have h1 := List.find?_some hf
    have h2 := List.mem_of_find?_eq_some hf
    rw [ok.2.2 j h2 k hk (by simpa using h1)]
theorem tw_ha (ok : tw_ok G o ad) {k : Nat} (hk : k ∈ tw_as) : tw_h G o ad s h (ad k) = some (tw_arr G s k) := by
  unfold tw_h
  rw [if_neg (ok.2.1 k hk).2, tw_find ok hk]
theorem tw_hi (ok : tw_ok G o ad) {k : Nat} (hk : k ∈ tw_ia) : tw_h G o ad s h (ad k) = some (.inl (G.2.2.1 0, tw_len k, .inl (s.2.1 k))) := by
  have h1 : k ∈ tw_as := by
    simp only [List.mem_cons, List.not_mem_nil, or_false] at hk ⊢
    omega
  have h2 : k ≠ 27 := by
    simp only [List.mem_cons, List.not_mem_nil, or_false] at hk
    omega
  rw [tw_ha ok h1]
  simp [tw_arr, h2]
theorem tw_hl (ok : tw_ok G o ad) : tw_h G o ad s h (ad 27) = some (.inl (G.2.2.1 1, 3298, .inr (.inl s.2.2.1))) := by
  rw [tw_ha ok (by decide)]
  rfl
theorem tw_else {a : Nat} (h1 : a ≠ o) (h2 : ∀ k ∈ tw_as, ad k ≠ a) : tw_h G o ad s h a = h a := by
  unfold tw_h
  rw [if_neg h1, List.find?_eq_none.mpr (fun k hk => by simpa using h2 k hk)]
theorem tw_low (ok : tw_ok G o ad) {a : Nat} (ha : a < G.1) : tw_h G o ad s h a = h a :=
  tw_else (by have := ok.1; omega) (fun k hk => by have := (ok.2.1 k hk).1; omega)
theorem tw_ext {s s' : tw_S} (hf : ∀ k, k < 40 → tw_fv ad s k = tw_fv ad s' k) (ha : ∀ k ∈ tw_as, tw_arr G s k = tw_arr G s' k) : tw_h G o ad s h = tw_h G o ad s' h := by
  funext a
  unfold tw_h
  by_cases q : a = o
  · rw [if_pos q, if_pos q]
    congr 3
    unfold tw_fs
    exact List.map_congr_left (fun k hk => hf k (List.mem_range.mp hk))
  · rw [if_neg q, if_neg q]
    cases hf : tw_as.find? (fun k => decide (ad k = a)) with
    | none => rfl
    | some k => simp only; rw [ha k (List.mem_of_find?_eq_some hf)]
theorem tw_seto {s' : tw_S} {k : Nat} {v : Value} (hk : k < 40) (hv : tw_fv ad s' k = v) (hf : ∀ j, j < 40 → j ≠ k → tw_fv ad s j = tw_fv ad s' j) (ha : ∀ k ∈ tw_as, tw_arr G s k = tw_arr G s' k) : wq_set (tw_h G o ad s h) o (.inr (2, (tw_fs ad s).set k v)) = tw_h G o ad s' h := by
  funext a
  by_cases q : a = o
  · subst q
    rw [wq_set_eq, tw_ho]
    congr 3
    unfold tw_fs
    apply List.ext_getElem
    · simp
    · intro i h1 h2
      simp only [List.length_map, List.length_range] at h2
      rw [List.getElem_set]
      by_cases e : k = i
      · subst e
        simp [hv]
      · simp [e, hf i h2 (fun z => e z.symm)]
  · rw [wq_set_ne q]
    unfold tw_h
    rw [if_neg q, if_neg q]
    cases hf : tw_as.find? (fun k => decide (ad k = a)) with
    | none => rfl
    | some k => simp only; rw [ha k (List.mem_of_find?_eq_some hf)]
theorem tw_seta (ok : tw_ok G o ad) {s' : tw_S} {k : Nat} {e : va_E} (hk : k ∈ tw_as) (he : tw_arr G s' k = e) (hf : ∀ j, j < 40 → tw_fv ad s j = tw_fv ad s' j) (ha : ∀ j ∈ tw_as, j ≠ k → tw_arr G s j = tw_arr G s' j) : wq_set (tw_h G o ad s h) (ad k) e = tw_h G o ad s' h := by
  funext a
  by_cases q : a = ad k
  · subst q
    rw [wq_set_eq, tw_ha ok hk, he]
  · rw [wq_set_ne q]
    unfold tw_h
    by_cases q1 : a = o
    · rw [if_pos q1, if_pos q1]
      congr 3
      unfold tw_fs
      exact List.map_congr_left (fun k hk => hf k (List.mem_range.mp hk))
    · rw [if_neg q1, if_neg q1]
      cases hf : tw_as.find? (fun k => decide (ad k = a)) with
      | none => rfl
      | some j =>
        simp only
        rw [ha j (List.mem_of_find?_eq_some hf) (fun z => q (by have := List.find?_some hf; simp at this; rw [← this, z]))]
theorem tw_set_i {k : Nat} (hk : k < 40) (h1 : k ∉ tw_as) (h2 : k ≠ 29) (x : Int32) : wq_set (tw_h G o ad s h) o (.inr (2, (tw_fs ad s).set k (.int x))) = tw_h G o ad (tw_pi s k x) h := by
  refine tw_seto hk ?_ ?_ ?_
  · simp only [tw_fv, if_neg h1, if_neg h2, tw_pi, if_true]
  · intro j _ hj
    simp only [tw_fv, tw_pi, if_neg hj]
  · intro j _
    rfl
theorem tw_set_v (x : Int64) : wq_set (tw_h G o ad s h) o (.inr (2, (tw_fs ad s).set 29 (.long x))) = tw_h G o ad (tw_pv s x) h := by
  refine tw_seto (by decide) ?_ ?_ ?_
  · rfl
  · intro j _ hj
    simp only [tw_fv, tw_pv, if_neg hj]
  · intro j _
    rfl
theorem tw_set_a (ok : tw_ok G o ad) {k : Nat} (hk : k ∈ tw_ia) (i : Nat) (x : Int32) : wq_set (tw_h G o ad s h) (ad k) (.inl (G.2.2.1 0, tw_len k, .inl (upd (s.2.1 k) i x))) = tw_h G o ad (tw_pa s k i x) h := by
  have h1 : k ∈ tw_as := by
    simp only [List.mem_cons, List.not_mem_nil, or_false] at hk ⊢
    omega
  have h2 : k ≠ 27 := by
    simp only [List.mem_cons, List.not_mem_nil, or_false] at hk
    omega
  refine tw_seta ok h1 ?_ ?_ ?_
  · simp [tw_arr, h2, tw_pa]
  · intro j _
    rfl
  · intro j _ hj
    by_cases e : j = 27
    · subst e
      rfl
    · simp [tw_arr, e, tw_pa, hj]
theorem tw_set_l (ok : tw_ok G o ad) (i : Nat) (x : Int64) : wq_set (tw_h G o ad s h) (ad 27) (.inl (G.2.2.1 1, 3298, .inr (.inl (vp_updL s.2.2.1 i x)))) = tw_h G o ad (tw_pl s i x) h := by
  refine tw_seta ok (by decide) ?_ ?_ ?_
  · rfl
  · intro j _
    rfl
  · intro j _ hj
    simp [tw_arr, hj, tw_pl]
end TW
/-- what the rows ask of an array's place, of a store, of a field's store -/
def tw_ld (s : tw_S) (k : Nat) (i : Int32) (F : Int32 → Prop) : Prop := vp_in i (tw_len k) ∧ F (s.2.1 k i.toNatClampNeg)
def tw_st (s : tw_S) (k : Nat) (i x : Int32) (F : tw_S → Prop) : Prop := vp_in i (tw_len k) ∧ F (tw_pa s k i.toNatClampNeg x)
def tw_ldl (s : tw_S) (i : Int32) (F : Int64 → Prop) : Prop := vp_in i 3298 ∧ F (s.2.2.1 i.toNatClampNeg)
def tw_stl (s : tw_S) (i : Int32) (x : Int64) (F : tw_S → Prop) : Prop := vp_in i 3298 ∧ F (tw_pl s i.toNatClampNeg x)
def tw_pt (s : tw_S) (k : Nat) (x : Int32) (F : tw_S → Prop) : Prop := F (tw_pi s k x)
def tw_pz (s : tw_S) (k : Nat) (x : Int32) (F : tw_S → Prop) : Prop := (x = 0 ∨ x = 1) ∧ F (tw_pi s k x)
def tw_ptv (s : tw_S) (x : Int64) (F : tw_S → Prop) : Prop := F (tw_pv s x)
theorem tw_ld_n {s : tw_S} {k : Nat} {i : Int32} {F : Int32 → Prop} (n : Nat) (e : i = nI n) (hn : n < tw_len k) (k1 : F (s.2.1 k n)) : tw_ld s k i F := by
  have hl : tw_len k < 2 ^ 31 := by unfold tw_len; split <;> decide
  subst e
  refine ⟨vp_in_nI hn hl, ?_⟩
  rw [nI_clamp (by omega)]
  exact k1
theorem tw_st_n {s : tw_S} {k : Nat} {i x : Int32} {F : tw_S → Prop} (n : Nat) (e : i = nI n) (hn : n < tw_len k) (k1 : F (tw_pa s k n x)) : tw_st s k i x F := by
  have hl : tw_len k < 2 ^ 31 := by unfold tw_len; split <;> decide
  subst e
  refine ⟨vp_in_nI hn hl, ?_⟩
  rw [nI_clamp (by omega)]
  exact k1
theorem tw_ldl_n {s : tw_S} {i : Int32} {F : Int64 → Prop} (n : Nat) (e : i = nI n) (hn : n < 3298) (k1 : F (s.2.2.1 n)) : tw_ldl s i F := by
  subst e
  refine ⟨vp_in_nI hn (by omega), ?_⟩
  rw [nI_clamp (by omega)]
  exact k1
theorem tw_stl_n {s : tw_S} {i : Int32} {x : Int64} {F : tw_S → Prop} (n : Nat) (e : i = nI n) (hn : n < 3298) (k1 : F (tw_pl s n x)) : tw_stl s i x F := by
  subst e
  refine ⟨vp_in_nI hn (by omega), ?_⟩
  rw [nI_clamp (by omega)]
  exact k1
/-- the judgement for a method of the reference: K the end's own word -/
def tw_qi (G : wq_G) (o : Nat) (ad : Nat → Nat) (h : wq_H) (K : Int32 → tw_S → Prop) : Option Value → wq_H → Prop := fun r h' => ∃ (x : Int32) (s : tw_S), r = some (.int x) ∧ h' = tw_h G o ad s h ∧ K x s
def tw_qv (G : wq_G) (o : Nat) (ad : Nat → Nat) (h : wq_H) (K : tw_S → Prop) : Option Value → wq_H → Prop := fun r h' => ∃ s : tw_S, r = none ∧ h' = tw_h G o ad s h ∧ K s
def tw_ql (G : wq_G) (o : Nat) (ad : Nat → Nat) (h : wq_H) (K : Int64 → tw_S → Prop) : Option Value → wq_H → Prop := fun r h' => ∃ (x : Int64) (s : tw_S), r = some (.long x) ∧ h' = tw_h G o ad s h ∧ K x s
/-- a call, and what comes behind it -/
def tw_ci (G : wq_G) (l : Launch) (o : Nat) (ad : Nat → Nat) (h : wq_H) (d : Nat) (M : wq_M) (args : List Value) (s : tw_S) (K : Int32 → tw_S → Prop) : Prop := ∃ d', d' < d ∧ wq_C G l d' 0 0 M args (tw_h G o ad s h) (tw_qi G o ad h K)
def tw_cv (G : wq_G) (l : Launch) (o : Nat) (ad : Nat → Nat) (h : wq_H) (d : Nat) (M : wq_M) (args : List Value) (s : tw_S) (K : tw_S → Prop) : Prop := ∃ d', d' < d ∧ wq_C G l d' 0 0 M args (tw_h G o ad s h) (tw_qv G o ad h K)
def tw_cl (G : wq_G) (l : Launch) (o : Nat) (ad : Nat → Nat) (h : wq_H) (d : Nat) (M : wq_M) (args : List Value) (s : tw_S) (K : Int64 → tw_S → Prop) : Prop := ∃ d', d' < d ∧ wq_C G l d' 0 0 M args (tw_h G o ad s h) (tw_ql G o ad h K)
abbrev tw_T (G : wq_G) (l : Launch) (o : Nat) (ad : Nat → Nat) (h : wq_H) (d : Nat) (M : wq_M) (Q : Option Value → wq_H → Prop) (pc : Nat) (L : List (Option Value)) (st : List Value) (s : tw_S) : Prop := wq_T G l d M Q pc L st (tw_h G o ad s h) 0 0
section TWR
variable {G : wq_G} {l : Launch} {d : Nat} {M : wq_M} {Q : Option Value → wq_H → Prop} {pc : Nat} {L L' : List (Option Value)} {st : List Value} {h : wq_H} {o : Nat} {ad : Nat → Nat} {s : tw_S}
theorem tw_ci.use {d d' : Nat} {args : List Value} {K K' : Int32 → tw_S → Prop} (hd : d' < d) (c : wq_C G l d' 0 0 M args (tw_h G o ad s h) (tw_qi G o ad h K')) (k : ∀ x s', K' x s' → K x s') : tw_ci G l o ad h d M args s K :=
  ⟨d', hd, c.mono (fun r h' ⟨x, s', h1, h2, h3⟩ => ⟨x, s', h1, h2, k x s' h3⟩)⟩
theorem tw_cv.use {d d' : Nat} {args : List Value} {K K' : tw_S → Prop} (hd : d' < d) (c : wq_C G l d' 0 0 M args (tw_h G o ad s h) (tw_qv G o ad h K')) (k : ∀ s', K' s' → K s') : tw_cv G l o ad h d M args s K :=
  ⟨d', hd, c.mono (fun r h' ⟨s', h1, h2, h3⟩ => ⟨s', h1, h2, k s' h3⟩)⟩
theorem tw_cl.use {d d' : Nat} {args : List Value} {K K' : Int64 → tw_S → Prop} (hd : d' < d) (c : wq_C G l d' 0 0 M args (tw_h G o ad s h) (tw_ql G o ad h K')) (k : ∀ x s', K' x s' → K x s') : tw_cl G l o ad h d M args s K :=
  ⟨d', hd, c.mono (fun r h' ⟨x, s', h1, h2, h3⟩ => ⟨x, s', h1, h2, k x s' h3⟩)⟩
theorem tw_get {idx k : Nat} {v : Value} (hM : M.1.cls = RX3) (hl : Cond.fieldLink RX3 idx RX3 (TX3 k).2.1 (TX3 k).2.2.1 ∈ lw_all) (hk : k < 40) (hr : (TX3 k).1 = RX3) (hv : tw_fv ad s k = v) (hd : decode M.2.1 pc = .ok (.getfield idx, 3)) (kk : tw_T G l o ad h d M Q (pc + 3) L (v :: st) s) : tw_T G l o ad h d M Q pc L (.ref o :: st) s :=
  wq_getf (ci := 2) (Cn := RX3) (T := TX3) (N := 40) (ref := RX3) rfl in_X3 hk (by rw [hM]; exact hl) (Or.inl hr.symm) hd tw_ho (by unfold tw_fs; rw [List.getElem?_map, List.getElem?_range hk, ← hv]; rfl) kk
theorem tw_put {idx k : Nat} {x : Int32} {ty : FieldType} (hM : M.1.cls = RX3) (hl : Cond.fieldLink RX3 idx RX3 (TX3 k).2.1 (TX3 k).2.2.1 ∈ lw_all) (hk : k < 40) (hr : (TX3 k).1 = RX3) (hf : (TX3 k).2.2.2 = false) (h1 : k ∉ tw_as) (h2 : k ≠ 29) (hty : parseFieldDescriptor (TX3 k).2.2.1 = some ty) (ok : tw_ok G o ad) (hd : decode M.2.1 pc = .ok (.putfield idx, 3)) (hn : narrow ty (.int x) = .int x) (hfit : fits ty (.int x) = true) (kk : tw_T G l o ad h d M Q (pc + 3) L st (tw_pi s k x)) : tw_T G l o ad h d M Q pc L (.int x :: .ref o :: st) s :=
  wq_putf (ci := 2) (Cn := RX3) (T := TX3) (N := 40) (ref := RX3) tyX3 tyX3_ok nmX3 rfl in_X3 hk (by rw [hM]; exact hl) (Or.inl hr.symm) (Or.inl hf) hty hd hn hfit tw_ho ok.1 (by unfold tw_fs; simpa using hk) (by rw [tw_set_i hk h1 h2]; exact kk)
theorem tw_putv {idx : Nat} {x : Int64} (hM : M.1.cls = RX3) (hl : Cond.fieldLink RX3 idx RX3 (TX3 29).2.1 (TX3 29).2.2.1 ∈ lw_all) (ok : tw_ok G o ad) (hd : decode M.2.1 pc = .ok (.putfield idx, 3)) (kk : tw_T G l o ad h d M Q (pc + 3) L st (tw_pv s x)) : tw_T G l o ad h d M Q pc L (.long x :: .ref o :: st) s :=
  wq_putf (ci := 2) (Cn := RX3) (T := TX3) (N := 40) (ref := RX3) (ty := .long) tyX3 tyX3_ok nmX3 rfl in_X3 (k := 29) (by decide) (by rw [hM]; exact hl) (Or.inl rfl) (Or.inl rfl) (by decide +kernel) hd rfl rfl tw_ho ok.1 (by unfold tw_fs; simp) (by rw [tw_set_v]; exact kk)
theorem tw_iald {k : Nat} {i : Int32} (ok : tw_ok G o ad) (hk : k ∈ tw_ia) (hd : decode M.2.1 pc = .ok (.iaload, 1)) (hi : vp_in i (tw_len k)) (kk : tw_T G l o ad h d M Q (pc + 1) L (.int (s.2.1 k i.toNatClampNeg) :: st) s) : tw_T G l o ad h d M Q pc L (.int i :: .ref (ad k) :: st) s :=
  wq_iald hd (tw_hi ok hk) hi kk
theorem tw_iast {k : Nat} {i x : Int32} (ok : tw_ok G o ad) (hk : k ∈ tw_ia) (hd : decode M.2.1 pc = .ok (.iastore, 1)) (hi : vp_in i (tw_len k)) (kk : tw_T G l o ad h d M Q (pc + 1) L st (tw_pa s k i.toNatClampNeg x)) : tw_T G l o ad h d M Q pc L (.int x :: .int i :: .ref (ad k) :: st) s :=
  wq_iast hd (tw_hi ok hk) ((ok.2.1 k (by simp only [List.mem_cons, List.not_mem_nil, or_false] at hk ⊢; omega)).1) hi (by rw [tw_set_a ok hk]; exact kk)
theorem tw_lald {i : Int32} (ok : tw_ok G o ad) (hd : decode M.2.1 pc = .ok (.laload, 1)) (hi : vp_in i 3298) (kk : tw_T G l o ad h d M Q (pc + 1) L (.long (s.2.2.1 i.toNatClampNeg) :: st) s) : tw_T G l o ad h d M Q pc L (.int i :: .ref (ad 27) :: st) s :=
  wq_lald hd (tw_hl ok) hi kk
theorem tw_last {i : Int32} {x : Int64} (ok : tw_ok G o ad) (hd : decode M.2.1 pc = .ok (.lastore, 1)) (hi : vp_in i 3298) (kk : tw_T G l o ad h d M Q (pc + 1) L st (tw_pl s i.toNatClampNeg x)) : tw_T G l o ad h d M Q pc L (.long x :: .int i :: .ref (ad 27) :: st) s :=
  wq_last hd (tw_hl ok) ((ok.2.1 27 (by decide)).1) hi (by rw [tw_set_l ok]; exact kk)
theorem tw_iald' {k : Nat} {i : Int32} {F : Int32 → Prop} (ok : tw_ok G o ad) (hk : k ∈ tw_ia) (hd : decode M.2.1 pc = .ok (.iaload, 1)) (V : tw_ld s k i F) (kk : ∀ y, F y → tw_T G l o ad h d M Q (pc + 1) L (.int y :: st) s) : tw_T G l o ad h d M Q pc L (.int i :: .ref (ad k) :: st) s := tw_iald ok hk hd V.1 (kk _ V.2)
theorem tw_iast' {k : Nat} {i x : Int32} {F : tw_S → Prop} (ok : tw_ok G o ad) (hk : k ∈ tw_ia) (hd : decode M.2.1 pc = .ok (.iastore, 1)) (V : tw_st s k i x F) (kk : ∀ s', F s' → tw_T G l o ad h d M Q (pc + 1) L st s') : tw_T G l o ad h d M Q pc L (.int x :: .int i :: .ref (ad k) :: st) s := tw_iast ok hk hd V.1 (kk _ V.2)
theorem tw_lald' {i : Int32} {F : Int64 → Prop} (ok : tw_ok G o ad) (hd : decode M.2.1 pc = .ok (.laload, 1)) (V : tw_ldl s i F) (kk : ∀ y, F y → tw_T G l o ad h d M Q (pc + 1) L (.long y :: st) s) : tw_T G l o ad h d M Q pc L (.int i :: .ref (ad 27) :: st) s := tw_lald ok hd V.1 (kk _ V.2)
theorem tw_last' {i : Int32} {x : Int64} {F : tw_S → Prop} (ok : tw_ok G o ad) (hd : decode M.2.1 pc = .ok (.lastore, 1)) (V : tw_stl s i x F) (kk : ∀ s', F s' → tw_T G l o ad h d M Q (pc + 1) L st s') : tw_T G l o ad h d M Q pc L (.long x :: .int i :: .ref (ad 27) :: st) s := tw_last ok hd V.1 (kk _ V.2)
theorem tw_z {x : Int32} (h : x = 0 ∨ x = 1) : narrow .boolean (.int x) = .int x ∧ fits .boolean (.int x) = true := by
  rcases h with rfl | rfl <;> decide
/-- calls within the reference -/
theorem tw_callV {idx n : Nat} {As : List Value} {M' : wq_M} {R : Option Value → wq_H → Prop} (hM : M.1.cls = RX3) (hT : GoodIn lw_all (wsV RX3 idx RX3 M'.1 (ws_ M'.1 M'.2.1 M'.2.2.1 M'.2.2.2))) (hdd : M'.1.cls = RX3 ∧ M'.1.cls ≠ "java/lang/invoke/MethodHandle" ∧ M'.1.cls ≠ "java/lang/invoke/VarHandle" ∧ (parseMethodDescriptor M'.1.desc).map (fun d => d.parameters.length) = some n) (hml : M'.2.2.1 ≤ 31)
    (hd : decode M.2.1 pc = .ok (.invokevirtual idx, 3)) (hAs : As.length = n) (hst : (st.map fun v => v.category).sum ≤ 8) (hc : ∃ d', d' < d ∧ wq_C G l d' 0 0 M' (.ref o :: As) (tw_h G o ad s h) R)
    (kk : ∀ r h', R r h' → wq_T G l d M Q (pc + 3) L (r.toList ++ st) h' 0 0) : tw_T G l o ad h d M Q pc L (As.reverse ++ .ref o :: st) s := by
  obtain ⟨d', hlt, hc⟩ := hc
  exact wq_callV (ci := 2) (q := (RX3, TX3, 40)) (by rw [hM]; exact hT) rfl hdd hml hd hAs hst tw_ho hlt (Nat.le_refl 0) (Nat.le_refl 0) hc kk
theorem tw_callS {idx n : Nat} {As : List Value} {M' : wq_M} {R : Option Value → wq_H → Prop} (hM : M.1.cls = RX3) (hT : GoodIn lw_all (va_wsS RX3 idx M'.1 (ws_ M'.1 M'.2.1 M'.2.2.1 M'.2.2.2))) (hdd : M'.1.cls ≠ "java/lang/invoke/MethodHandle" ∧ M'.1.cls ≠ "java/lang/invoke/VarHandle" ∧ (parseMethodDescriptor M'.1.desc).map (fun d => d.parameters.length) = some n) (hml : M'.2.2.1 ≤ 31)
    (hd : decode M.2.1 pc = .ok (.invokestatic idx, 3)) (hAs : As.length = n) (hst : (st.map fun v => v.category).sum ≤ 8) (hc : ∃ d', d' < d ∧ wq_C G l d' 0 0 M' As (tw_h G o ad s h) R)
    (kk : ∀ r h', R r h' → wq_T G l d M Q (pc + 3) L (r.toList ++ st) h' 0 0) : tw_T G l o ad h d M Q pc L (As.reverse ++ st) s := by
  obtain ⟨d', hlt, hc⟩ := hc
  exact wq_callS (by rw [hM]; exact hT) hdd hml hd hAs hst hlt (Nat.le_refl 0) (Nat.le_refl 0) hc kk
theorem tw_callX {idx n b ci : Nat} {fs As : List Value} {q : vw_C} {M' : wq_M} {R : Option Value → wq_H → Prop} (hM : M.1.cls = RX3) (hT : GoodIn lw_all (wsV RX3 idx q.1 M'.1 (ws_ M'.1 M'.2.1 M'.2.2.1 M'.2.2.2))) (hq : vwCl[ci]? = some q) (hdd : M'.1.cls = q.1 ∧ M'.1.cls ≠ "java/lang/invoke/MethodHandle" ∧ M'.1.cls ≠ "java/lang/invoke/VarHandle" ∧ (parseMethodDescriptor M'.1.desc).map (fun d => d.parameters.length) = some n) (hml : M'.2.2.1 ≤ 31)
    (hd : decode M.2.1 pc = .ok (.invokevirtual idx, 3)) (hAs : As.length = n) (hst : (st.map fun v => v.category).sum ≤ 8) (hb : tw_h G o ad s h b = some (.inr (ci, fs))) (hc : ∃ d', d' < d ∧ wq_C G l d' 0 0 M' (.ref b :: As) (tw_h G o ad s h) R)
    (kk : ∀ r h', R r h' → wq_T G l d M Q (pc + 3) L (r.toList ++ st) h' 0 0) : tw_T G l o ad h d M Q pc L (As.reverse ++ .ref b :: st) s := by
  obtain ⟨d', hlt, hc⟩ := hc
  exact wq_callV (ci := ci) (q := q) (by rw [hM]; exact hT) hq hdd hml hd hAs hst hb hlt (Nat.le_refl 0) (Nat.le_refl 0) hc kk
theorem tw_ki {st : List Value} {K : Int32 → tw_S → Prop} {pc : Nat} (kk : ∀ x s', K x s' → tw_T G l o ad h d M Q pc L (.int x :: st) s') : ∀ r h', tw_qi G o ad h K r h' → wq_T G l d M Q pc L (r.toList ++ st) h' 0 0 := by
  rintro r h' ⟨x, s', rfl, rfl, h3⟩
  exact kk x s' h3
theorem tw_kl {st : List Value} {K : Int64 → tw_S → Prop} {pc : Nat} (kk : ∀ x s', K x s' → tw_T G l o ad h d M Q pc L (.long x :: st) s') : ∀ r h', tw_ql G o ad h K r h' → wq_T G l d M Q pc L (r.toList ++ st) h' 0 0 := by
  rintro r h' ⟨x, s', rfl, rfl, h3⟩
  exact kk x s' h3
theorem tw_kv {st : List Value} {K : tw_S → Prop} {pc : Nat} (kk : ∀ s', K s' → tw_T G l o ad h d M Q pc L st s') : ∀ r h', tw_qv G o ad h K r h' → wq_T G l d M Q pc L (r.toList ++ st) h' 0 0 := by
  rintro r h' ⟨s', rfl, rfl, h3⟩
  exact kk s' h3
end TWR
