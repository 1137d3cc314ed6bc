/-! THE LAYER wq_: a clean form of the kit's W and Met. The heap is a map from addresses to cells (wq_H); a frame's locals are a list (wq_L); the room left counts down (C cells, S slots); d frames of 50 words are left. -/
set_option maxRecDepth 100000
abbrev vwCl : List vw_C := [(RX1, TX1, 11), (RX2, TX2, 6), (RX3, TX3, 40), (RX4, TX4, 7), (RX5, TX5, 3), (RX6, TX6, 7), (RX7, TX7, 1), (RX8, TX8, 4), (RX10, TX10, 3), (RX11, TX11, 4), (RX12, TX12, 2), (RX13, TX13, 1), (RX14, TX14, 3), (RX15, TX15, 6), (RX16, TX16, 4), (RX17, TX17, 2), (RJ2, TJ2, 3), (RJ4, TJ4, 4), (RJ5, TJ5, 4), (RJ14, TJ14, 1), (RJ18, TJ18, 6)]
/-- of a run: where its own cells begin; the classes' numbers and slots; the array classes (0 int, 1 long, 2 byte, 3 Object); the constant cells; addresses of constants -/
abbrev wq_G : Type := Nat × va_G × (Nat → ClassId) × (Nat → Option va_E) × (Nat → Nat)
abbrev wq_M : Type := MethodName × ByteArray × Nat × Option FieldType
abbrev wq_H : Type := Nat → Option va_E
abbrev wq_A (G : wq_G) : Nat → Prop := fun q => G.1 ≤ q
abbrev wq_tys (G : wq_G) : List (ClassId × FieldType) := [(G.2.2.1 0, .int), (G.2.2.1 1, .long), (G.2.2.1 2, .byte), (G.2.2.1 3, .object "java/lang/Object")]
/-- of the constant arrays also (4) that of the small Integers -/
abbrev wq_tyc (G : wq_G) : List (ClassId × FieldType) := wq_tys G ++ [(G.2.2.1 4, .object "java/lang/Intege\x72")]
def wq_R (G : wq_G) (h : wq_H) (H : Heap) : Prop := G.1 ≤ H.size ∧ ∀ (a : Nat) (e : va_E), h a = some e → (G.1 ≤ a ∧ va_at G.2.1 vwCl (a, e) H) ∨ (a < G.1 ∧ G.2.2.2.1 a = some e)
def wq_L (ls : Array Slot) (nL : Nat) (L : List (Option Value)) : Prop := ls.size = nL ∧ lv_wf ls ∧ ∀ (i : Nat) (v : Value), L[i]? = some (some v) → ls[i]? = some (.val v)
/-- a constant cell, as it can be read -/
def wq_cv (G : wq_G) (U : State) (H : Heap) (a : Nat) (e : va_E) : Prop := match e with
  | .inl x => ∃ cell : Cell, H[a]? = some cell ∧ cell.vm ≠ .unknown ∧ cell.slots = (vp_cell x.1 x.2).slots ∧ ∀ ty, (x.1, ty) ∈ wq_tyc G → U.isArrayOf cell ty
  | .inr o => ∃ r : vw_C, vwCl[o.1]? = some r ∧ va_O r.1 a (wq_A G) U H ∧ ∀ (k : Nat) (v : Value), k < r.2.2 → o.2[k]? = some v → va_OF (r.2.1 k).1 (r.2.1 k).2.1 (r.2.1 k).2.2.1 v a (wq_A G) U H
def wq_kind : Cond → Bool
  | .castable _ _ => true
  | .fieldLinkNest _ _ _ _ _ _ => true
  | .methodLinkNest _ _ _ _ => true
  | .declares _ => true
  | .privateMethod _ => true
  | _ => false
def wq_nw : List Cond := lw_tbl.filter wq_kind
theorem wq_nw_on {w : Cond} (h : wq_kind w = true) : w.onTables = true := by
  cases w <;> first | rfl | cases h
theorem wq_nw_warm {w : Cond} (h : wq_kind w = true) {s U : State} (hW : s.WarmedH U.vm) (hZ : va_Nw w s) : va_Nw w U := by
  cases w <;> first | exact va_Nw.warmC hW hZ | exact va_Nw.warmF hW hZ | exact va_Nw.warmM hW hZ | exact va_Nw.warmD hW hZ | exact va_tabs rfl (rfl : (s.setVm U.vm).vm = U.vm) (by rw [Cond.privateMethod_setVm hW.alike]; exact hZ) | cases h
/-- statics, as the Statement gives them: their values' addresses are G's -/
abbrev wq_sts (G : wq_G) : List (String × String × String × Value) := [
  ("java/lang/String", "COMPACT_STRINGS", "Z", .int 1),
  ("java/util/ArrayList", "DEFAULTCAPACITY_EMPTY_ELEMENTDATA", "[Ljava/lang/Object;", .ref (G.2.2.2.2 0)),
  ("java/lang/Integer$IntegerCache", "high", "I", .int 127),
  ("java/lang/Integer$IntegerCache", "cache", "[Ljava/lang/Integer;", .ref (G.2.2.2.2 1))]
/-- String constants: class, entry, text, and the constant's place among G's addresses (10 on, by the text: 10 (none) 11 even 12 is 13 law 14 line 15 look 16 odd 17 of 18 point 19 ray 20 run 21 set 22 tells) -/
abbrev wq_strs (G : wq_G) : List (String × Nat × String × Nat) := [("NotAtOnce$Reade\x72", 134, "", G.2.2.2.2 10), ("NotAtOnce$Tokens", 28, "", G.2.2.2.2 10), ("NotAtOnce$Reade\x72", 221, "even", G.2.2.2.2 11), ("NotAtOnceModel", 242, "even", G.2.2.2.2 11), ("NotAtOnce$Reade\x72", 218, "is", G.2.2.2.2 12), ("NotAtOnceModel", 238, "is", G.2.2.2.2 12), ("NotAtOnce$Reade\x72", 139, "law", G.2.2.2.2 13), ("NotAtOnce$Token", 33, "law", G.2.2.2.2 13), ("NotAtOnceModel", 138, "law", G.2.2.2.2 13), ("NotAtOnce$Reade\x72", 147, "line", G.2.2.2.2 14), ("NotAtOnce$Token", 41, "line", G.2.2.2.2 14), ("NotAtOnceModel", 146, "line", G.2.2.2.2 14), ("NotAtOnce$Reade\x72", 141, "look", G.2.2.2.2 15), ("NotAtOnce$Token", 35, "look", G.2.2.2.2 15), ("NotAtOnceModel", 140, "look", G.2.2.2.2 15), ("NotAtOnce$Reade\x72", 219, "odd", G.2.2.2.2 16), ("NotAtOnceModel", 240, "odd", G.2.2.2.2 16), ("NotAtOnce$Reade\x72", 167, "of", G.2.2.2.2 17), ("NotAtOnceModel", 221, "of", G.2.2.2.2 17), ("NotAtOnce$Reade\x72", 143, "point", G.2.2.2.2 18), ("NotAtOnce$Token", 37, "point", G.2.2.2.2 18), ("NotAtOnceModel", 142, "point", G.2.2.2.2 18), ("NotAtOnce$Reade\x72", 148, "ray", G.2.2.2.2 19), ("NotAtOnce$Token", 43, "ray", G.2.2.2.2 19), ("NotAtOnceModel", 148, "ray", G.2.2.2.2 19), ("NotAtOnce$Reade\x72", 150, "run", G.2.2.2.2 20), ("NotAtOnce$Token", 45, "run", G.2.2.2.2 20), ("NotAtOnceModel", 150, "run", G.2.2.2.2 20), ("NotAtOnce$Reade\x72", 145, "set", G.2.2.2.2 21), ("NotAtOnce$Token", 39, "set", G.2.2.2.2 21), ("NotAtOnceModel", 144, "set", G.2.2.2.2 21), ("NotAtOnce$Reade\x72", 197, "tells", G.2.2.2.2 22), ("NotAtOnceModel", 234, "tells", G.2.2.2.2 22)]
/-- statics of which nothing is known but that they are references -/
abbrev wq_stq : List (String × String × String) := [("jdk/internal/util/Preconditions", "SIOOBE_FORMATTER", "Ljava/util/function/BiFunction;")]
def wq_En (G : wq_G) (U : State) : Prop := va_K G.2.1 vwCl (wq_tys G) U ∧ (∀ w ∈ wq_nw, va_Nw w U) ∧ G.1 ≤ U.heap.size ∧ (∀ (a : Nat) (e : va_E), G.2.2.2.1 a = some e → a < G.1 ∧ wq_cv G U U.heap a e) ∧ (∀ q ∈ wq_sts G, va_Z q.1 q.2.1 q.2.2.1 q.2.2.2 (wq_A G) U U.heap) ∧ va_AO "java/lang/Object" U ∧ (∀ q ∈ wq_strs G, vk_R q.1 q.2.1 q.2.2.1 q.2.2.2 U) ∧ (∀ q ∈ wq_stq, va_Zq q.1 q.2.1 q.2.2 (wq_A G) U U.heap) ∧ va_Mi "[Ljava/lang/Object;" (G.2.2.2.2 2) U
theorem wq_cv.moved {G : wq_G} {u U : State} {H H1 : Heap} {a : Nat} {e : va_E} (hvm : u.vm.Alike U.vm) (ha : a < G.1) (hz : G.1 ≤ H.size) (hq : ∀ a : Nat, a < H.size → ¬ wq_A G a → H1[a]? = H[a]?) (h : wq_cv G u H a e) : wq_cv G U H1 a e := by
  cases e with
  | inl x =>
    obtain ⟨cell, h1, h2, h3, h4⟩ := h
    exact ⟨cell, by rw [hq a (by omega) (by unfold wq_A; omega)]; exact h1, h2, h3, fun ty ht => State.isArrayOf_alike hvm (h4 ty ht)⟩
  | inr o =>
    obtain ⟨r, h1, h2, h3⟩ := h
    exact ⟨r, h1, (va_O.moved hvm h2).kept hq, fun k v hk hv => (va_OF.moved hvm (h3 k v hk hv)).kept hq⟩
theorem wq_En.same {G : wq_G} {u U : State} (hv : u.vm = U.vm) (hh : U.heap = u.heap) (h : wq_En G u) : wq_En G U := by
  obtain ⟨h1, h2, h3, h4, h5, h6, h7, h8, h9⟩ := h
  have hvm : u.vm.Alike U.vm := by rw [hv]; exact Vm.Alike.refl _
  refine ⟨va_K.moved hvm h1, fun w hw => va_Nw.same (wq_nw_on (List.mem_filter.mp hw).2) hv (h2 w hw), by rw [hh]; exact h3, fun a e he => ⟨(h4 a e he).1, ?_⟩, fun q hq => by rw [hh]; exact va_Z.moved hvm (h5 q hq), va_AO.moved hvm h6, fun q hq => vk_R.same hv.symm (h7 q hq), fun q hq => by rw [hh]; exact va_Zq.moved hvm (h8 q hq), va_Mi.moved hvm h9⟩
  rw [hh]
  exact wq_cv.moved hvm (h4 a e he).1 h3 (fun _ _ _ => rfl) (h4 a e he).2
theorem wq_En.warm {G : wq_G} {s U : State} {locs : List Loc} (hW : s.WarmedH U.vm) (hS : va_S (wq_A G) s.heap U.heap locs) (h : wq_En G s) : wq_En G U := by
  obtain ⟨h1, h2, h3, h4, h5, h6, h7, h8, h9⟩ := h
  have hvm := hW.alike
  refine ⟨va_K.moved hvm h1, fun w hw => wq_nw_warm (List.mem_filter.mp hw).2 hW (h2 w hw), Nat.le_trans h3 hS.1, fun a e he => ⟨(h4 a e he).1, wq_cv.moved hvm (h4 a e he).1 h3 hS.2.1 (h4 a e he).2⟩, fun q hq => (va_Z.moved hvm (h5 q hq)).kept hS.2.1, va_AO.moved hvm h6, fun q hq => vk_R.warm hW (h7 q hq), fun q hq => (va_Zq.moved hvm (h8 q hq)).kept hS.2.1, va_Mi.moved hvm h9⟩
/-- a method's end: what it returns, and the heap -/
def wq_Qc (G : wq_G) (Q : Option Value → wq_H → Prop) : Array Value → State → Outcome → State → Prop := fun _ st oc t => (∃ (r : Option Value) (h : wq_H), oc = .returned r ∧ Q r h ∧ wq_R G h t.heap) ∧ va_F (wq_A G) st t
/-- what stands all through a method -/
def wq_X (G : wq_G) (d : Nat) (M : wq_M) (p : Program) (s : State) (m : MethodId) (args : Array Value) (meth : Method) (c : Code) (R : Room) : Prop :=
  p.tables.exec = Jvm.exec ∧ c.code = M.2.1 ∧ meth.sig.returnType = M.2.2.2 ∧ c.maxLocals = M.2.2.1 ∧ s.vm.findClass M.1.cls = some m.cls ∧ (∀ w ∈ lw_all, w.before args s = true) ∧ meth.locks = false ∧ meth.name = M.1.name ∧ wq_En G s ∧ d ≤ R.frames ∧ 50 * d ≤ R.locals
/-- THE JUDGEMENT: from pc, with locals L, stack st, heap h, C cells and S slots left, the method M comes to its end with Q -/
def wq_T (G : wq_G) (l : Launch) (d : Nat) (M : wq_M) (Q : Option Value → wq_H → Prop) (pc : Nat) (L : List (Option Value)) (st : List Value) (h : wq_H) (C S : Nat) : Prop :=
  ∀ (p : Program) (e : Env) (s : State) (m : MethodId) (args : Array Value) (below : List Frame) (meth : Method) (c : Code) (R : Room), wq_X G d M p s m args meth c R →
    ∀ (H : Heap) (locs : List Loc) (cells slots : Nat) (ls : Array Slot), wq_R G h H → va_S (wq_A G) s.heap H locs → cells + C ≤ R.cells → slots + S ≤ R.slots → wq_L ls M.2.2.1 L →
      W p l e R s m args below meth c H locs cells slots (MQ below (wq_Qc G Q) args s R.cells R.slots (wq_A G)) (F0 m pc ls st)
/-- A CONTRACT: called with args on the heap h, M returns with Q; at most mc cells of ms slots are new -/
def wq_C (G : wq_G) (l : Launch) (d mc ms : Nat) (M : wq_M) (args : List Value) (h : wq_H) (Q : Option Value → wq_H → Prop) : Prop :=
  Met l M.1 (ws_ M.1 M.2.1 M.2.2.1 M.2.2.2) { frames := d, cells := mc, slots := ms, locals := 50 * d } (va_Pc args (fun U => wq_En G U ∧ wq_R G h U.heap)) (wq_Qc G Q) mc ms (wq_A G)
def wq_set (h : wq_H) (a : Nat) (e : va_E) : wq_H := fun b => if b = a then some e else h b
theorem wq_set_eq {h : wq_H} {a : Nat} {e : va_E} : wq_set h a e a = some e := by simp [wq_set]
theorem wq_set_ne {h : wq_H} {a b : Nat} {e : va_E} (n : b ≠ a) : wq_set h a e b = h b := by simp [wq_set, n]
def wq_ws (G : wq_G) (h : wq_H) (n : Nat) : va_W := (List.range n).filterMap (fun b => if G.1 ≤ b then (h b).map (fun e => (b, e)) else none)
theorem wq_ws_mem {G : wq_G} {h : wq_H} {n : Nat} {q : Nat × va_E} : q ∈ wq_ws G h n ↔ q.1 < n ∧ G.1 ≤ q.1 ∧ h q.1 = some q.2 := by
  simp only [wq_ws, List.mem_filterMap, List.mem_range]
  constructor
  · rintro ⟨b, hb, h2⟩
    by_cases hz : G.1 ≤ b
    · rw [if_pos hz] at h2
      cases hh : h b with
      | none => rw [hh] at h2; cases h2
      | some e =>
        rw [hh] at h2
        cases h2
        exact ⟨hb, hz, hh⟩
    · rw [if_neg hz] at h2
      cases h2
  · rintro ⟨h1, h2, h3⟩
    exact ⟨q.1, h1, by rw [if_pos h2, h3]; rfl⟩
theorem wq_ws_pw (G : wq_G) (h : wq_H) (n : Nat) : (wq_ws G h n).Pairwise (fun p q => p.1 < q.1) := by
  unfold wq_ws
  refine List.Pairwise.filterMap (R := fun a b => a < b) _ ?_ List.pairwise_lt_range
  intro a a' haa b hb b' hb'
  by_cases hz : G.1 ≤ a
  · rw [if_pos hz] at hb
    by_cases hz' : G.1 ≤ a'
    · rw [if_pos hz'] at hb'
      cases hh : h a with
      | none => rw [hh] at hb; cases hb
      | some e =>
        cases hh' : h a' with
        | none => rw [hh'] at hb'; cases hb'
        | some e' =>
          rw [hh] at hb; rw [hh'] at hb'
          cases hb; cases hb'
          exact haa
    · rw [if_neg hz'] at hb'
      cases hb'
  · rw [if_neg hz] at hb
    cases hb
theorem wq_ws_D (G : wq_G) (h : wq_H) (n : Nat) : va_D (wq_A G) (wq_ws G h n) := by
  have pw := wq_ws_pw G h n
  rw [List.pairwise_iff_getElem] at pw
  refine ⟨fun i j p q hi hj hpq => ?_, fun k q hk => (wq_ws_mem.mp (List.mem_of_getElem? hk)).2.1⟩
  obtain ⟨i1, i2⟩ := List.getElem?_eq_some_iff.mp hi
  obtain ⟨j1, j2⟩ := List.getElem?_eq_some_iff.mp hj
  rcases Nat.lt_trichotomy i j with h1 | h1 | h1
  · have := pw i j i1 j1 h1
    rw [i2, j2] at this
    omega
  · exact h1
  · have := pw j i j1 i1 h1
    rw [i2, j2] at this
    omega
theorem wq_ws_P {G : wq_G} {h : wq_H} {H : Heap} (hR : wq_R G h H) : va_P G.2.1 vwCl (wq_ws G h H.size) H := by
  intro k q hk
  obtain ⟨h1, h2, h3⟩ := wq_ws_mem.mp (List.mem_of_getElem? hk)
  rcases hR.2 q.1 q.2 h3 with h4 | h4
  · exact h4.2
  · omega
theorem wq_ws_at {G : wq_G} {h : wq_H} {H : Heap} (hR : wq_R G h H) {a : Nat} {e : va_E} (ha : h a = some e) (hz : G.1 ≤ a) : ∃ q0 : Nat, (wq_ws G h H.size)[q0]? = some (a, e) := by
  have h1 : va_at G.2.1 vwCl (a, e) H := by
    rcases hR.2 a e ha with h4 | h4
    · exact h4.2
    · omega
  exact List.getElem?_of_mem (wq_ws_mem.mpr ⟨h1.lt, hz, ha⟩)
theorem wq_R.put {G : wq_G} {h : wq_H} {H H1 : Heap} (hR : wq_R G h H) {a q0 : Nat} {e e' : va_E} (hz : G.1 ≤ a) (h0 : (wq_ws G h H.size)[q0]? = some (a, e)) (hP : va_P G.2.1 vwCl ((wq_ws G h H.size).set q0 (a, e')) H1) (hs : G.1 ≤ H1.size) : wq_R G (wq_set h a e') H1 := by
  refine ⟨hs, fun b eb hb => ?_⟩
  by_cases hba : b = a
  · subst hba
    rw [wq_set_eq] at hb
    cases hb
    have hl := (List.getElem?_eq_some_iff.mp h0).1
    exact Or.inl ⟨hz, hP q0 _ (by rw [List.getElem?_set_self hl])⟩
  · rw [wq_set_ne hba] at hb
    rcases hR.2 b eb hb with h1 | h1
    · left
      refine ⟨h1.1, ?_⟩
      obtain ⟨k, hk⟩ := wq_ws_at hR hb h1.1
      have hne : q0 ≠ k := by
        intro hqk
        subst hqk
        rw [hk] at h0
        cases h0
        exact hba rfl
      exact hP k _ (by rw [List.getElem?_set_ne hne]; exact hk)
    · exact Or.inr h1
theorem wq_R.new {G : wq_G} {h : wq_H} {H H1 : Heap} (hR : wq_R G h H) {q : Nat} {e : va_E} (hP : va_P G.2.1 vwCl (wq_ws G h H.size ++ [(q, e)]) H1) (hD : va_D (wq_A G) (wq_ws G h H.size ++ [(q, e)])) (hs : G.1 ≤ H1.size) : h q = none ∧ G.1 ≤ q ∧ wq_R G (wq_set h q e) H1 := by
  have hl : (wq_ws G h H.size ++ [(q, e)])[(wq_ws G h H.size).length]? = some (q, e) := by simp
  have hq : G.1 ≤ q := hD.2 _ _ hl
  have hn : h q = none := by
    cases hh : h q with
    | none => rfl
    | some e0 =>
      obtain ⟨k, hk⟩ := wq_ws_at hR hh hq
      have hk2 := (List.getElem?_eq_some_iff.mp hk).1
      have := hD.1 k (wq_ws G h H.size).length (q, e0) (q, e) (by rw [List.getElem?_append_left hk2]; exact hk) hl rfl
      omega
  refine ⟨hn, hq, hs, fun b eb hb => ?_⟩
  by_cases hba : b = q
  · subst hba
    rw [wq_set_eq] at hb
    cases hb
    exact Or.inl ⟨hq, hP _ _ hl⟩
  · rw [wq_set_ne hba] at hb
    rcases hR.2 b eb hb with h1 | h1
    · left
      obtain ⟨k, hk⟩ := wq_ws_at hR hb h1.1
      have hk2 := (List.getElem?_eq_some_iff.mp hk).1
      exact ⟨h1.1, hP k _ (by rw [List.getElem?_append_left hk2]; exact hk)⟩
    · exact Or.inr h1
/-! locals -/
def wq_cl (a : Option Value) : Option Value := match a with
  | some w => if w.category = 2 then none else some w
  | none => none
def wq_s1 : List (Option Value) → Nat → Value → List (Option Value)
  | [], _, _ => []
  | _ :: L, 0, v => some v :: L
  | a :: L, 1, v => wq_cl a :: wq_s1 L 0 v
  | a :: L, i + 2, v => a :: wq_s1 L (i + 1) v
def wq_s2 : List (Option Value) → Nat → Value → List (Option Value)
  | [], _, _ => []
  | [_], 0, v => [some v]
  | _ :: _ :: L, 0, v => some v :: none :: L
  | a :: L, 1, v => wq_cl a :: wq_s2 L 0 v
  | a :: L, i + 2, v => a :: wq_s2 L (i + 1) v
def wq_al (L : List (Option Value)) : List (Nat × Value) := (List.range L.length).filterMap (fun i => match L[i]? with
  | some (some v) => some (i, v)
  | _ => none)
theorem wq_al_mem {L : List (Option Value)} {q : Nat × Value} : q ∈ wq_al L ↔ L[q.1]? = some (some q.2) := by
  simp only [wq_al, List.mem_filterMap, List.mem_range]
  constructor
  · rintro ⟨i, hi, h2⟩
    split at h2
    · rename_i v hv
      cases h2
      exact hv
    · cases h2
  · intro h
    exact ⟨q.1, (List.getElem?_eq_some_iff.mp h).1, by rw [h]⟩
theorem wq_L.has {ls : Array Slot} {nL : Nat} {L : List (Option Value)} (h : wq_L ls nL L) : lv_has ls nL (wq_al L) := ⟨h.1, h.2.1, fun q hq => h.2.2 q.1 q.2 (wq_al_mem.mp hq)⟩
theorem wq_L.at {ls : Array Slot} {nL : Nat} {L : List (Option Value)} (h : wq_L ls nL L) {i : Nat} {v : Value} (hi : L[i]? = some (some v)) : ls[i]? = some (.val v) := h.2.2 i v hi
theorem wq_cl_some {a : Option Value} {w : Value} (h : wq_cl a = some w) : a = some w ∧ ¬ w.category = 2 := by
  cases a with
  | none => cases h
  | some x =>
    simp only [wq_cl] at h
    by_cases hc : x.category = 2
    · rw [if_pos hc] at h
      cases h
    · rw [if_neg hc] at h
      cases h
      exact ⟨rfl, hc⟩
theorem wq_s1_at : ∀ (L : List (Option Value)) (i : Nat) (v : Value) (j : Nat) (w : Value), (wq_s1 L i v)[j]? = some (some w) → (j = i ∧ w = v) ∨ (L[j]? = some (some w) ∧ j ≠ i ∧ ¬ (j + 1 = i ∧ w.category = 2)) := by
  intro L i v
  induction L, i, v using wq_s1.induct with
  | case1 => intro j w h; simp [wq_s1] at h
  | case2 a L v =>
    intro j w h
    cases j with
    | zero => simp [wq_s1] at h; exact Or.inl ⟨rfl, h.symm⟩
    | succ j => simp [wq_s1] at h; exact Or.inr ⟨by simpa using h, by omega, by omega⟩
  | case3 a L v ih =>
    intro j w h
    cases j with
    | zero =>
      simp [wq_s1] at h
      obtain ⟨h1, h2⟩ := wq_cl_some h
      exact Or.inr ⟨by simp [h1], by omega, fun q => h2 q.2⟩
    | succ j =>
      simp only [wq_s1, List.getElem?_cons_succ] at h
      rcases ih j w h with ⟨h1, h2⟩ | ⟨h1, h2, h3⟩
      · exact Or.inl ⟨by omega, h2⟩
      · exact Or.inr ⟨by simpa using h1, by omega, by omega⟩
  | case4 a L i v ih =>
    intro j w h
    cases j with
    | zero =>
      simp [wq_s1] at h
      exact Or.inr ⟨by simp [h], by omega, by omega⟩
    | succ j =>
      simp only [wq_s1, List.getElem?_cons_succ] at h
      rcases ih j w h with ⟨h1, h2⟩ | ⟨h1, h2, h3⟩
      · exact Or.inl ⟨by omega, h2⟩
      · exact Or.inr ⟨by simpa using h1, by omega, fun q => h3 ⟨by omega, q.2⟩⟩
theorem wq_s2_at : ∀ (L : List (Option Value)) (i : Nat) (v : Value) (j : Nat) (w : Value), (wq_s2 L i v)[j]? = some (some w) → (j = i ∧ w = v) ∨ (L[j]? = some (some w) ∧ j ≠ i ∧ j ≠ i + 1 ∧ ¬ (j + 1 = i ∧ w.category = 2)) := by
  intro L i v
  induction L, i, v using wq_s2.induct with
  | case1 => intro j w h; simp [wq_s2] at h
  | case2 a v =>
    intro j w h
    cases j with
    | zero => simp [wq_s2] at h; exact Or.inl ⟨rfl, h.symm⟩
    | succ j => simp [wq_s2] at h
  | case3 a b L v =>
    intro j w h
    cases j with
    | zero => simp [wq_s2] at h; exact Or.inl ⟨rfl, h.symm⟩
    | succ j =>
      cases j with
      | zero => simp [wq_s2] at h
      | succ j => simp [wq_s2] at h; exact Or.inr ⟨by simpa using h, by omega, by omega, by omega⟩
  | case4 a L v ih =>
    intro j w h
    cases j with
    | zero =>
      simp [wq_s2] at h
      obtain ⟨h1, h2⟩ := wq_cl_some h
      exact Or.inr ⟨by simp [h1], by omega, by omega, fun q => h2 q.2⟩
    | succ j =>
      simp only [wq_s2, List.getElem?_cons_succ] at h
      rcases ih j w h with ⟨h1, h2⟩ | ⟨h1, h2, h3, h4⟩
      · exact Or.inl ⟨by omega, h2⟩
      · exact Or.inr ⟨by simpa using h1, by omega, by omega, by omega⟩
  | case5 a L i v ih =>
    intro j w h
    cases j with
    | zero =>
      simp [wq_s2] at h
      exact Or.inr ⟨by simp [h], by omega, by omega, by omega⟩
    | succ j =>
      simp only [wq_s2, List.getElem?_cons_succ] at h
      rcases ih j w h with ⟨h1, h2⟩ | ⟨h1, h2, h3, h4⟩
      · exact Or.inl ⟨by omega, h2⟩
      · exact Or.inr ⟨by simpa using h1, by omega, by omega, fun q => h4 ⟨by omega, q.2⟩⟩
theorem wq_L.st1 {ls' : Array Slot} {nL : Nat} {L : List (Option Value)} {i : Nat} {v : Value} (h : lv_has ls' nL ((i, v) :: (wq_al L).filter (fun q => !(q.1 == i) && !(q.1 + 1 == i && q.2.category == 2)))) : wq_L ls' nL (wq_s1 L i v) := by
  refine ⟨h.1, h.2.1, fun j w hj => ?_⟩
  rcases wq_s1_at L i v j w hj with ⟨rfl, rfl⟩ | ⟨h1, h2, h3⟩
  · exact h.2.2 (j, w) List.mem_cons_self
  · refine h.2.2 (j, w) (List.mem_cons_of_mem _ (List.mem_filter.mpr ⟨wq_al_mem.mpr h1, ?_⟩))
    simp only [Bool.and_eq_true, Bool.not_eq_true', beq_eq_false_iff_ne, ne_eq, Bool.and_eq_false_iff]
    refine ⟨h2, ?_⟩
    by_cases q : j + 1 = i
    · exact Or.inr (fun q2 => h3 ⟨q, q2⟩)
    · exact Or.inl q
theorem wq_L.st2 {ls' : Array Slot} {nL : Nat} {L : List (Option Value)} {i : Nat} {v : Value} (h : lv_has ls' nL ((i, v) :: (wq_al L).filter (fun q => !(q.1 == i) && (!(q.1 == i + 1) && !(q.1 + 1 == i && q.2.category == 2))))) : wq_L ls' nL (wq_s2 L i v) := by
  refine ⟨h.1, h.2.1, fun j w hj => ?_⟩
  rcases wq_s2_at L i v j w hj with ⟨rfl, rfl⟩ | ⟨h1, h2, h3, h4⟩
  · exact h.2.2 (j, w) List.mem_cons_self
  · refine h.2.2 (j, w) (List.mem_cons_of_mem _ (List.mem_filter.mpr ⟨wq_al_mem.mpr h1, ?_⟩))
    simp only [Bool.and_eq_true, Bool.not_eq_true', beq_eq_false_iff_ne, ne_eq, Bool.and_eq_false_iff]
    refine ⟨h2, h3, ?_⟩
    by_cases q : j + 1 = i
    · exact Or.inr (fun q2 => h4 ⟨q, q2⟩)
    · exact Or.inl q
/-- fewer known locals: none at each place, or the same -/
def wq_le : List (Option Value) → List (Option Value) → Prop
  | [], _ => True
  | none :: L, _ :: L' => wq_le L L'
  | none :: L, [] => wq_le L []
  | some v :: L, some w :: L' => v = w ∧ wq_le L L'
  | some _ :: _, _ => False
theorem wq_le_at : ∀ (L L' : List (Option Value)), wq_le L L' → ∀ (i : Nat) (v : Value), L[i]? = some (some v) → L'[i]? = some (some v) := by
  intro L L'
  induction L, L' using wq_le.induct with
  | case1 L' => intro _ i v h; simp at h
  | case2 L a L' ih =>
    intro hle i v h
    cases i with
    | zero => simp at h
    | succ i => simp only [List.getElem?_cons_succ] at h ⊢; exact ih hle i v h
  | case3 L ih =>
    intro hle i v h
    cases i with
    | zero => simp at h
    | succ i => simp only [List.getElem?_cons_succ] at h; have := ih hle i v h; simp at this
  | case4 v L w L' ih =>
    intro hle i x h
    obtain ⟨h1, h2⟩ := hle
    cases i with
    | zero => simp at h ⊢; rw [← h1]; exact h
    | succ i => simp only [List.getElem?_cons_succ] at h ⊢; exact ih h2 i x h
  | case5 v L L' hn =>
    intro hle
    cases L' with
    | nil => exact absurd hle (by simp [wq_le])
    | cons b L' =>
      cases b with
      | none => exact absurd hle (by simp [wq_le])
      | some w => exact absurd rfl (hn w L')
section WQ
variable {G : wq_G} {l : Launch} {d : Nat} {M : wq_M} {Q : Option Value → wq_H → Prop} {pc : Nat} {L L' : List (Option Value)} {st : List Value} {h : wq_H} {C S : Nat}
theorem wq_T.less (k : wq_T G l d M Q pc L st h C S) (hle : wq_le L L') : wq_T G l d M Q pc L' st h C S :=
  fun p e s m args below meth c R X H locs cells slots ls hR hS h1 h2 hL => k p e s m args below meth c R X H locs cells slots ls hR hS h1 h2 ⟨hL.1, hL.2.1, fun i v hi => hL.2.2 i v (wq_le_at _ _ hle i v hi)⟩
theorem wq_T.room {C' S' : Nat} (k : wq_T G l d M Q pc L st h C S) (hC : C ≤ C') (hS' : S ≤ S') : wq_T G l d M Q pc L st h C' S' :=
  fun p e s m args below meth c R X H locs cells slots ls hR hS h1 h2 hL => k p e s m args below meth c R X H locs cells slots ls hR hS (by omega) (by omega) hL
/-- some of what is known of the heap may be forgotten -/
theorem wq_T.forget {h' : wq_H} (k : wq_T G l d M Q pc L st h' C S) (hh : ∀ (a : Nat) (e : va_E), h' a = some e → h a = some e) : wq_T G l d M Q pc L st h C S :=
  fun p e s m args below meth c R X H locs cells slots ls hR hS h1 h2 hL => k p e s m args below meth c R X H locs cells slots ls ⟨hR.1, fun a e he => hR.2 a e (hh a e he)⟩ hS h1 h2 hL
theorem wq_C.mono {mc ms : Nat} {args : List Value} {Q Q' : Option Value → wq_H → Prop} (k : wq_C G l d mc ms M args h Q) (hQ : ∀ r h', Q r h' → Q' r h') : wq_C G l d mc ms M args h Q' := by
  unfold wq_C Met at k ⊢
  refine MetFree.mono k (fun _ _ x => x) (fun _ _ _ _ _ x => x) ?_
  rintro a st o t - ⟨⟨⟨r, h', h1, h2, h3⟩, h4⟩, h5⟩
  exact ⟨⟨⟨r, h', h1, hQ r h' h2, h3⟩, h4⟩, h5⟩
theorem wq_iconst {n : Int} {v : Int32} (hd : decode M.2.1 pc = .ok (.iconst n, 1)) (hv : Int32.ofInt n = v) (k : wq_T G l d M Q (pc + 1) L (.int v :: st) h C S) : wq_T G l d M Q pc L (st) h C S :=
  fun p e s m args below meth c R X H locs cells slots ls hR hS h1 h2 hL => lv_iconst X.1 X.2.1 hd hv (k p e s m args below meth c R X H locs cells slots ls hR hS h1 h2 hL)
theorem wq_bipush {n : Int} {v : Int32} (hd : decode M.2.1 pc = .ok (.bipush n, 2)) (hv : (Int8.ofInt n).toInt32 = v) (k : wq_T G l d M Q (pc + 2) L (.int v :: st) h C S) : wq_T G l d M Q pc L (st) h C S :=
  fun p e s m args below meth c R X H locs cells slots ls hR hS h1 h2 hL => lv_bipush X.1 X.2.1 hd hv (k p e s m args below meth c R X H locs cells slots ls hR hS h1 h2 hL)
theorem wq_sipush {n : Int} {v : Int32} (hd : decode M.2.1 pc = .ok (.sipush n, 3)) (hv : (Int16.ofInt n).toInt32 = v) (k : wq_T G l d M Q (pc + 3) L (.int v :: st) h C S) : wq_T G l d M Q pc L (st) h C S :=
  fun p e s m args below meth c R X H locs cells slots ls hR hS h1 h2 hL => lv_sipush X.1 X.2.1 hd hv (k p e s m args below meth c R X H locs cells slots ls hR hS h1 h2 hL)
theorem wq_lconst {n : Fin 2} {v : Int64} (hd : decode M.2.1 pc = .ok (.lconst n, 1)) (hv : Int64.ofNat (n : Nat) = v) (k : wq_T G l d M Q (pc + 1) L (.long v :: st) h C S) : wq_T G l d M Q pc L (st) h C S :=
  fun p e s m args below meth c R X H locs cells slots ls hR hS h1 h2 hL => lv_lconst X.1 X.2.1 hd hv (k p e s m args below meth c R X H locs cells slots ls hR hS h1 h2 hL)
theorem wq_iload_n {k : Fin 4} {i : Nat} {x : Int32} (hd : decode M.2.1 pc = .ok (.iload_n k, 1)) (hi : (k : Nat) = i) (hv : L[i]? = some (some (.int x))) (k : wq_T G l d M Q (pc + 1) L (.int x :: st) h C S) : wq_T G l d M Q pc L (st) h C S :=
  fun p e s m args below meth c R X H locs cells slots ls hR hS h1 h2 hL => lv_iload_n X.1 X.2.1 hd hi (hL.at hv) (k p e s m args below meth c R X H locs cells slots ls hR hS h1 h2 hL)
theorem wq_iload {i : Nat} {x : Int32} (hd : decode M.2.1 pc = .ok (.iload i, 2)) (hv : L[i]? = some (some (.int x))) (k : wq_T G l d M Q (pc + 2) L (.int x :: st) h C S) : wq_T G l d M Q pc L (st) h C S :=
  fun p e s m args below meth c R X H locs cells slots ls hR hS h1 h2 hL => lv_iload X.1 X.2.1 hd (hL.at hv) (k p e s m args below meth c R X H locs cells slots ls hR hS h1 h2 hL)
theorem wq_lload_n {k : Fin 4} {i : Nat} {x : Int64} (hd : decode M.2.1 pc = .ok (.lload_n k, 1)) (hi : (k : Nat) = i) (hv : L[i]? = some (some (.long x))) (k : wq_T G l d M Q (pc + 1) L (.long x :: st) h C S) : wq_T G l d M Q pc L (st) h C S :=
  fun p e s m args below meth c R X H locs cells slots ls hR hS h1 h2 hL => lv_lload_n X.1 X.2.1 hd hi (hL.at hv) (k p e s m args below meth c R X H locs cells slots ls hR hS h1 h2 hL)
theorem wq_lload {i : Nat} {x : Int64} (hd : decode M.2.1 pc = .ok (.lload i, 2)) (hv : L[i]? = some (some (.long x))) (k : wq_T G l d M Q (pc + 2) L (.long x :: st) h C S) : wq_T G l d M Q pc L (st) h C S :=
  fun p e s m args below meth c R X H locs cells slots ls hR hS h1 h2 hL => lv_lload X.1 X.2.1 hd (hL.at hv) (k p e s m args below meth c R X H locs cells slots ls hR hS h1 h2 hL)
theorem wq_aload_n {k : Fin 4} {i : Nat} {x : Nat} (hd : decode M.2.1 pc = .ok (.aload_n k, 1)) (hi : (k : Nat) = i) (hv : L[i]? = some (some (.ref x))) (k : wq_T G l d M Q (pc + 1) L (.ref x :: st) h C S) : wq_T G l d M Q pc L (st) h C S :=
  fun p e s m args below meth c R X H locs cells slots ls hR hS h1 h2 hL => lv_aload_n X.1 X.2.1 hd hi (hL.at hv) (k p e s m args below meth c R X H locs cells slots ls hR hS h1 h2 hL)
theorem wq_aload {i : Nat} {x : Nat} (hd : decode M.2.1 pc = .ok (.aload i, 2)) (hv : L[i]? = some (some (.ref x))) (k : wq_T G l d M Q (pc + 2) L (.ref x :: st) h C S) : wq_T G l d M Q pc L (st) h C S :=
  fun p e s m args below meth c R X H locs cells slots ls hR hS h1 h2 hL => lv_aload X.1 X.2.1 hd (hL.at hv) (k p e s m args below meth c R X H locs cells slots ls hR hS h1 h2 hL)
theorem wq_aload_nN {k : Fin 4} {i : Nat} (hd : decode M.2.1 pc = .ok (.aload_n k, 1)) (hi : (k : Nat) = i) (hv : L[i]? = some (some .null)) (k : wq_T G l d M Q (pc + 1) L (.null :: st) h C S) : wq_T G l d M Q pc L (st) h C S :=
  fun p e s m args below meth c R X H locs cells slots ls hR hS h1 h2 hL => lv_aload_nN X.1 X.2.1 hd hi (hL.at hv) (k p e s m args below meth c R X H locs cells slots ls hR hS h1 h2 hL)
theorem wq_istore_n {k : Fin 4} {i : Nat} {x : Int32} (hd : decode M.2.1 pc = .ok (.istore_n k, 1)) (hi : (k : Nat) = i) (hn : i < M.2.2.1) (hl : wq_s1 L i (.int x) = L') (k : wq_T G l d M Q (pc + 1) L' st h C S) : wq_T G l d M Q pc L (.int x :: st) h C S := by
  subst hl
  intro p e s m args below meth c R X H locs cells slots ls hR hS h1 h2 hL
  exact lv_istore_n X.1 X.2.1 hd hi hL.has hn rfl (fun ls' hl' => k p e s m args below meth c R X H locs cells slots ls' hR hS h1 h2 (wq_L.st1 hl'))
theorem wq_istore {i : Nat} {x : Int32} (hd : decode M.2.1 pc = .ok (.istore i, 2)) (hn : i < M.2.2.1) (hl : wq_s1 L i (.int x) = L') (k : wq_T G l d M Q (pc + 2) L' st h C S) : wq_T G l d M Q pc L (.int x :: st) h C S := by
  subst hl
  intro p e s m args below meth c R X H locs cells slots ls hR hS h1 h2 hL
  exact lv_istore X.1 X.2.1 hd hL.has hn rfl (fun ls' hl' => k p e s m args below meth c R X H locs cells slots ls' hR hS h1 h2 (wq_L.st1 hl'))
theorem wq_lstore_n {k : Fin 4} {i : Nat} {x : Int64} (hd : decode M.2.1 pc = .ok (.lstore_n k, 1)) (hi : (k : Nat) = i) (hn : i + 1 < M.2.2.1) (hl : wq_s2 L i (.long x) = L') (k : wq_T G l d M Q (pc + 1) L' st h C S) : wq_T G l d M Q pc L (.long x :: st) h C S := by
  subst hl
  intro p e s m args below meth c R X H locs cells slots ls hR hS h1 h2 hL
  exact lv_lstore_n X.1 X.2.1 hd hi hL.has hn rfl (fun ls' hl' => k p e s m args below meth c R X H locs cells slots ls' hR hS h1 h2 (wq_L.st2 hl'))
theorem wq_lstore {i : Nat} {x : Int64} (hd : decode M.2.1 pc = .ok (.lstore i, 2)) (hn : i + 1 < M.2.2.1) (hl : wq_s2 L i (.long x) = L') (k : wq_T G l d M Q (pc + 2) L' st h C S) : wq_T G l d M Q pc L (.long x :: st) h C S := by
  subst hl
  intro p e s m args below meth c R X H locs cells slots ls hR hS h1 h2 hL
  exact lv_lstore X.1 X.2.1 hd hL.has hn rfl (fun ls' hl' => k p e s m args below meth c R X H locs cells slots ls' hR hS h1 h2 (wq_L.st2 hl'))
theorem wq_astore_n {k : Fin 4} {i : Nat} {x : Nat} (hd : decode M.2.1 pc = .ok (.astore_n k, 1)) (hi : (k : Nat) = i) (hn : i < M.2.2.1) (hl : wq_s1 L i (.ref x) = L') (k : wq_T G l d M Q (pc + 1) L' st h C S) : wq_T G l d M Q pc L (.ref x :: st) h C S := by
  subst hl
  intro p e s m args below meth c R X H locs cells slots ls hR hS h1 h2 hL
  exact lv_astore_n X.1 X.2.1 hd hi hL.has hn rfl (fun ls' hl' => k p e s m args below meth c R X H locs cells slots ls' hR hS h1 h2 (wq_L.st1 hl'))
theorem wq_astore {i : Nat} {x : Nat} (hd : decode M.2.1 pc = .ok (.astore i, 2)) (hn : i < M.2.2.1) (hl : wq_s1 L i (.ref x) = L') (k : wq_T G l d M Q (pc + 2) L' st h C S) : wq_T G l d M Q pc L (.ref x :: st) h C S := by
  subst hl
  intro p e s m args below meth c R X H locs cells slots ls hR hS h1 h2 hL
  exact lv_astore X.1 X.2.1 hd hL.has hn rfl (fun ls' hl' => k p e s m args below meth c R X H locs cells slots ls' hR hS h1 h2 (wq_L.st1 hl'))
theorem wq_astore_nN {k : Fin 4} {i : Nat} (hd : decode M.2.1 pc = .ok (.astore_n k, 1)) (hi : (k : Nat) = i) (hn : i < M.2.2.1) (hl : wq_s1 L i (.null) = L') (k : wq_T G l d M Q (pc + 1) L' st h C S) : wq_T G l d M Q pc L (.null :: st) h C S := by
  subst hl
  intro p e s m args below meth c R X H locs cells slots ls hR hS h1 h2 hL
  exact lv_astore_nN X.1 X.2.1 hd hi hL.has hn rfl (fun ls' hl' => k p e s m args below meth c R X H locs cells slots ls' hR hS h1 h2 (wq_L.st1 hl'))
theorem wq_iinc {i : Nat} {n : Int} {x v : Int32} (hd : decode M.2.1 pc = .ok (.iinc i n, 3)) (hv : L[i]? = some (some (.int x))) (he : x + Int32.ofInt n = v) (hn : i < M.2.2.1) (hl : wq_s1 L i (.int v) = L') (k : wq_T G l d M Q (pc + 3) L' st h C S) : wq_T G l d M Q pc L st h C S := by
  subst hl
  intro p e s m args below meth c R X H locs cells slots ls hR hS h1 h2 hL
  obtain ⟨q, hq⟩ := List.getElem?_of_mem (wq_al_mem (q := (i, Value.int x)) |>.mpr hv)
  exact lv_iinc X.1 X.2.1 hd hL.has hq he hn rfl (fun ls' hl' => k p e s m args below meth c R X H locs cells slots ls' hR hS h1 h2 (wq_L.st1 hl'))
theorem wq_iadd {x y : Int32} (hd : decode M.2.1 pc = .ok (.iadd, 1)) (k : wq_T G l d M Q (pc + 1) L (.int (x + y) :: st) h C S) : wq_T G l d M Q pc L (.int y :: .int x :: st) h C S :=
  fun p e s m args below meth c R X H locs cells slots ls hR hS h1 h2 hL => lv_iadd X.1 X.2.1 hd (k p e s m args below meth c R X H locs cells slots ls hR hS h1 h2 hL)
theorem wq_isub {x y : Int32} (hd : decode M.2.1 pc = .ok (.isub, 1)) (k : wq_T G l d M Q (pc + 1) L (.int (x - y) :: st) h C S) : wq_T G l d M Q pc L (.int y :: .int x :: st) h C S :=
  fun p e s m args below meth c R X H locs cells slots ls hR hS h1 h2 hL => lv_isub X.1 X.2.1 hd (k p e s m args below meth c R X H locs cells slots ls hR hS h1 h2 hL)
theorem wq_imul {x y : Int32} (hd : decode M.2.1 pc = .ok (.imul, 1)) (k : wq_T G l d M Q (pc + 1) L (.int (x * y) :: st) h C S) : wq_T G l d M Q pc L (.int y :: .int x :: st) h C S :=
  fun p e s m args below meth c R X H locs cells slots ls hR hS h1 h2 hL => lv_imul X.1 X.2.1 hd (k p e s m args below meth c R X H locs cells slots ls hR hS h1 h2 hL)
theorem wq_iand {x y : Int32} (hd : decode M.2.1 pc = .ok (.iand, 1)) (k : wq_T G l d M Q (pc + 1) L (.int (x &&& y) :: st) h C S) : wq_T G l d M Q pc L (.int y :: .int x :: st) h C S :=
  fun p e s m args below meth c R X H locs cells slots ls hR hS h1 h2 hL => lv_iand X.1 X.2.1 hd (k p e s m args below meth c R X H locs cells slots ls hR hS h1 h2 hL)
theorem wq_ior {x y : Int32} (hd : decode M.2.1 pc = .ok (.ior, 1)) (k : wq_T G l d M Q (pc + 1) L (.int (x ||| y) :: st) h C S) : wq_T G l d M Q pc L (.int y :: .int x :: st) h C S :=
  fun p e s m args below meth c R X H locs cells slots ls hR hS h1 h2 hL => lv_ior X.1 X.2.1 hd (k p e s m args below meth c R X H locs cells slots ls hR hS h1 h2 hL)
theorem wq_ixor {x y : Int32} (hd : decode M.2.1 pc = .ok (.ixor, 1)) (k : wq_T G l d M Q (pc + 1) L (.int (x ^^^ y) :: st) h C S) : wq_T G l d M Q pc L (.int y :: .int x :: st) h C S :=
  fun p e s m args below meth c R X H locs cells slots ls hR hS h1 h2 hL => lv_ixor X.1 X.2.1 hd (k p e s m args below meth c R X H locs cells slots ls hR hS h1 h2 hL)
theorem wq_ishl {x y : Int32} (hd : decode M.2.1 pc = .ok (.ishl, 1)) (k : wq_T G l d M Q (pc + 1) L (.int (x <<< (y &&& 31)) :: st) h C S) : wq_T G l d M Q pc L (.int y :: .int x :: st) h C S :=
  fun p e s m args below meth c R X H locs cells slots ls hR hS h1 h2 hL => lv_ishl X.1 X.2.1 hd (k p e s m args below meth c R X H locs cells slots ls hR hS h1 h2 hL)
theorem wq_ishr {x y : Int32} (hd : decode M.2.1 pc = .ok (.ishr, 1)) (k : wq_T G l d M Q (pc + 1) L (.int (x >>> (y &&& 31)) :: st) h C S) : wq_T G l d M Q pc L (.int y :: .int x :: st) h C S :=
  fun p e s m args below meth c R X H locs cells slots ls hR hS h1 h2 hL => lv_ishr X.1 X.2.1 hd (k p e s m args below meth c R X H locs cells slots ls hR hS h1 h2 hL)
theorem wq_idiv {x y : Int32} (hd : decode M.2.1 pc = .ok (.idiv, 1)) (hne : ¬ y = 0) (k : wq_T G l d M Q (pc + 1) L (.int (x / y) :: st) h C S) : wq_T G l d M Q pc L (.int y :: .int x :: st) h C S :=
  fun p e s m args below meth c R X H locs cells slots ls hR hS h1 h2 hL => lv_idiv X.1 X.2.1 hd hne (k p e s m args below meth c R X H locs cells slots ls hR hS h1 h2 hL)
theorem wq_irem {x y : Int32} (hd : decode M.2.1 pc = .ok (.irem, 1)) (hne : ¬ y = 0) (k : wq_T G l d M Q (pc + 1) L (.int (x - x / y * y) :: st) h C S) : wq_T G l d M Q pc L (.int y :: .int x :: st) h C S :=
  fun p e s m args below meth c R X H locs cells slots ls hR hS h1 h2 hL => lv_irem X.1 X.2.1 hd hne (k p e s m args below meth c R X H locs cells slots ls hR hS h1 h2 hL)
theorem wq_ineg {x : Int32} (hd : decode M.2.1 pc = .ok (.ineg, 1)) (k : wq_T G l d M Q (pc + 1) L (.int (-x) :: st) h C S) : wq_T G l d M Q pc L (.int x :: st) h C S :=
  fun p e s m args below meth c R X H locs cells slots ls hR hS h1 h2 hL => lv_ineg X.1 X.2.1 hd (k p e s m args below meth c R X H locs cells slots ls hR hS h1 h2 hL)
theorem wq_ladd {x y : Int64} (hd : decode M.2.1 pc = .ok (.ladd, 1)) (k : wq_T G l d M Q (pc + 1) L (.long (x + y) :: st) h C S) : wq_T G l d M Q pc L (.long y :: .long x :: st) h C S :=
  fun p e s m args below meth c R X H locs cells slots ls hR hS h1 h2 hL => lv_ladd X.1 X.2.1 hd (k p e s m args below meth c R X H locs cells slots ls hR hS h1 h2 hL)
theorem wq_lsub {x y : Int64} (hd : decode M.2.1 pc = .ok (.lsub, 1)) (k : wq_T G l d M Q (pc + 1) L (.long (x - y) :: st) h C S) : wq_T G l d M Q pc L (.long y :: .long x :: st) h C S :=
  fun p e s m args below meth c R X H locs cells slots ls hR hS h1 h2 hL => lv_lsub X.1 X.2.1 hd (k p e s m args below meth c R X H locs cells slots ls hR hS h1 h2 hL)
theorem wq_lmul {x y : Int64} (hd : decode M.2.1 pc = .ok (.lmul, 1)) (k : wq_T G l d M Q (pc + 1) L (.long (x * y) :: st) h C S) : wq_T G l d M Q pc L (.long y :: .long x :: st) h C S :=
  fun p e s m args below meth c R X H locs cells slots ls hR hS h1 h2 hL => lv_lmul X.1 X.2.1 hd (k p e s m args below meth c R X H locs cells slots ls hR hS h1 h2 hL)
theorem wq_ldiv {x y : Int64} (hd : decode M.2.1 pc = .ok (.ldiv, 1)) (hne : ¬ y = 0) (k : wq_T G l d M Q (pc + 1) L (.long (x / y) :: st) h C S) : wq_T G l d M Q pc L (.long y :: .long x :: st) h C S :=
  fun p e s m args below meth c R X H locs cells slots ls hR hS h1 h2 hL => lv_ldiv X.1 X.2.1 hd hne (k p e s m args below meth c R X H locs cells slots ls hR hS h1 h2 hL)
theorem wq_lrem {x y : Int64} (hd : decode M.2.1 pc = .ok (.lrem, 1)) (hne : ¬ y = 0) (k : wq_T G l d M Q (pc + 1) L (.long (x - x / y * y) :: st) h C S) : wq_T G l d M Q pc L (.long y :: .long x :: st) h C S :=
  fun p e s m args below meth c R X H locs cells slots ls hR hS h1 h2 hL => lv_lrem X.1 X.2.1 hd hne (k p e s m args below meth c R X H locs cells slots ls hR hS h1 h2 hL)
theorem wq_lneg {x : Int64} (hd : decode M.2.1 pc = .ok (.lneg, 1)) (k : wq_T G l d M Q (pc + 1) L (.long (-x) :: st) h C S) : wq_T G l d M Q pc L (.long x :: st) h C S :=
  fun p e s m args below meth c R X H locs cells slots ls hR hS h1 h2 hL => lv_lneg X.1 X.2.1 hd (k p e s m args below meth c R X H locs cells slots ls hR hS h1 h2 hL)
theorem wq_iushr {x y v : Int32} (hd : decode M.2.1 pc = .ok (.iushr, 1)) (hv : (x.toUInt32 >>> (y.toUInt32 &&& Int32.toUInt32 31)).toInt32 = v) (k : wq_T G l d M Q (pc + 1) L (.int v :: st) h C S) : wq_T G l d M Q pc L (.int y :: .int x :: st) h C S :=
  fun p e s m args below meth c R X H locs cells slots ls hR hS h1 h2 hL => lv_iushr X.1 X.2.1 hd hv (k p e s m args below meth c R X H locs cells slots ls hR hS h1 h2 hL)
theorem wq_i2l {x : Int32} (hd : decode M.2.1 pc = .ok (.i2l, 1)) (k : wq_T G l d M Q (pc + 1) L (.long x.toInt64 :: st) h C S) : wq_T G l d M Q pc L (.int x :: st) h C S :=
  fun p e s m args below meth c R X H locs cells slots ls hR hS h1 h2 hL => lv_i2l X.1 X.2.1 hd rfl (k p e s m args below meth c R X H locs cells slots ls hR hS h1 h2 hL)
theorem wq_l2i {x : Int64} (hd : decode M.2.1 pc = .ok (.l2i, 1)) (k : wq_T G l d M Q (pc + 1) L (.int x.toInt32 :: st) h C S) : wq_T G l d M Q pc L (.long x :: st) h C S :=
  fun p e s m args below meth c R X H locs cells slots ls hR hS h1 h2 hL => lv_l2i X.1 X.2.1 hd rfl (k p e s m args below meth c R X H locs cells slots ls hR hS h1 h2 hL)
theorem wq_i2b {x : Int32} (hd : decode M.2.1 pc = .ok (.i2b, 1)) (k : wq_T G l d M Q (pc + 1) L (.int x.toInt8.toInt32 :: st) h C S) : wq_T G l d M Q pc L (.int x :: st) h C S :=
  fun p e s m args below meth c R X H locs cells slots ls hR hS h1 h2 hL => lv_i2b X.1 X.2.1 hd rfl (k p e s m args below meth c R X H locs cells slots ls hR hS h1 h2 hL)
theorem wq_i2c {x : Int32} (hd : decode M.2.1 pc = .ok (.i2c, 1)) (k : wq_T G l d M Q (pc + 1) L (.int (x.toUInt32 % 65536).toInt32 :: st) h C S) : wq_T G l d M Q pc L (.int x :: st) h C S :=
  fun p e s m args below meth c R X H locs cells slots ls hR hS h1 h2 hL => lv_i2c X.1 X.2.1 hd rfl (k p e s m args below meth c R X H locs cells slots ls hR hS h1 h2 hL)
theorem wq_lcmp {x y : Int64} (hd : decode M.2.1 pc = .ok (.lcmp, 1)) (k : wq_T G l d M Q (pc + 1) L (.int (lg_cmp x y) :: st) h C S) : wq_T G l d M Q pc L (.long y :: .long x :: st) h C S :=
  fun p e s m args below meth c R X H locs cells slots ls hR hS h1 h2 hL => W.lcmp X.1 X.2.1 hd (k p e s m args below meth c R X H locs cells slots ls hR hS h1 h2 hL)
theorem wq_dup {va : Value} (hd : decode M.2.1 pc = .ok (.dup, 1)) (hva : va.category = 1) (k : wq_T G l d M Q (pc + 1) L (va :: va :: st) h C S) : wq_T G l d M Q pc L (va :: st) h C S :=
  fun p e s m args below meth c R X H locs cells slots ls hR hS h1 h2 hL => lv_dup X.1 X.2.1 hd hva (k p e s m args below meth c R X H locs cells slots ls hR hS h1 h2 hL)
theorem wq_pop {va : Value} (hd : decode M.2.1 pc = .ok (.pop, 1)) (hva : va.category = 1) (k : wq_T G l d M Q (pc + 1) L (st) h C S) : wq_T G l d M Q pc L (va :: st) h C S :=
  fun p e s m args below meth c R X H locs cells slots ls hR hS h1 h2 hL => lv_pop X.1 X.2.1 hd hva (k p e s m args below meth c R X H locs cells slots ls hR hS h1 h2 hL)
theorem wq_dup_x1 {va vb : Value} (hd : decode M.2.1 pc = .ok (.dup_x1, 1)) (hva : va.category = 1) (hvb : vb.category = 1) (k : wq_T G l d M Q (pc + 1) L (va :: vb :: va :: st) h C S) : wq_T G l d M Q pc L (va :: vb :: st) h C S :=
  fun p e s m args below meth c R X H locs cells slots ls hR hS h1 h2 hL => lv_dup_x1 X.1 X.2.1 hd hva hvb (k p e s m args below meth c R X H locs cells slots ls hR hS h1 h2 hL)
theorem wq_dup_x2 {va vb vd : Value} (hd : decode M.2.1 pc = .ok (.dup_x2, 1)) (hva : va.category = 1) (hvb : vb.category = 1) (hvd : vd.category = 1) (k : wq_T G l d M Q (pc + 1) L (va :: vb :: vd :: va :: st) h C S) : wq_T G l d M Q pc L (va :: vb :: vd :: st) h C S :=
  fun p e s m args below meth c R X H locs cells slots ls hR hS h1 h2 hL => lv_dup_x2 X.1 X.2.1 hd hva hvb hvd (k p e s m args below meth c R X H locs cells slots ls hR hS h1 h2 hL)
theorem wq_dup2 {va vb : Value} (hd : decode M.2.1 pc = .ok (.dup2, 1)) (hva : va.category = 1) (hvb : vb.category = 1) (k : wq_T G l d M Q (pc + 1) L (va :: vb :: va :: vb :: st) h C S) : wq_T G l d M Q pc L (va :: vb :: st) h C S :=
  fun p e s m args below meth c R X H locs cells slots ls hR hS h1 h2 hL => lv_dup2_11 X.1 X.2.1 hd hva hvb (k p e s m args below meth c R X H locs cells slots ls hR hS h1 h2 hL)
theorem wq_icmp_eq {x y : Int32} {off : Int} {tgt : Nat} (hd : decode M.2.1 pc = .ok (.if_icmp .eq off, 3)) (ht : (pc : Int) + off = (tgt : Int)) (kt : x = y → wq_T G l d M Q tgt L st h C S) (kf : ¬ x = y → wq_T G l d M Q (pc + 3) L st h C S) : wq_T G l d M Q pc L (.int y :: .int x :: st) h C S :=
  fun p e s m args below meth c R X H locs cells slots ls hR hS h1 h2 hL => lv_icmp_eq X.1 X.2.1 hd ht (fun q => kt q p e s m args below meth c R X H locs cells slots ls hR hS h1 h2 hL) (fun q => kf q p e s m args below meth c R X H locs cells slots ls hR hS h1 h2 hL)
theorem wq_if_eq {x : Int32} {off : Int} {tgt : Nat} (hd : decode M.2.1 pc = .ok (.ifCond .eq off, 3)) (ht : (pc : Int) + off = (tgt : Int)) (kt : x = 0 → wq_T G l d M Q tgt L st h C S) (kf : ¬ x = 0 → wq_T G l d M Q (pc + 3) L st h C S) : wq_T G l d M Q pc L (.int x :: st) h C S :=
  fun p e s m args below meth c R X H locs cells slots ls hR hS h1 h2 hL => lv_if_eq X.1 X.2.1 hd ht (fun q => kt q p e s m args below meth c R X H locs cells slots ls hR hS h1 h2 hL) (fun q => kf q p e s m args below meth c R X H locs cells slots ls hR hS h1 h2 hL)
theorem wq_icmp_ne {x y : Int32} {off : Int} {tgt : Nat} (hd : decode M.2.1 pc = .ok (.if_icmp .ne off, 3)) (ht : (pc : Int) + off = (tgt : Int)) (kt : ¬ x = y → wq_T G l d M Q tgt L st h C S) (kf : x = y → wq_T G l d M Q (pc + 3) L st h C S) : wq_T G l d M Q pc L (.int y :: .int x :: st) h C S :=
  fun p e s m args below meth c R X H locs cells slots ls hR hS h1 h2 hL => lv_icmp_ne X.1 X.2.1 hd ht (fun q => kt q p e s m args below meth c R X H locs cells slots ls hR hS h1 h2 hL) (fun q => kf q p e s m args below meth c R X H locs cells slots ls hR hS h1 h2 hL)
theorem wq_if_ne {x : Int32} {off : Int} {tgt : Nat} (hd : decode M.2.1 pc = .ok (.ifCond .ne off, 3)) (ht : (pc : Int) + off = (tgt : Int)) (kt : ¬ x = 0 → wq_T G l d M Q tgt L st h C S) (kf : x = 0 → wq_T G l d M Q (pc + 3) L st h C S) : wq_T G l d M Q pc L (.int x :: st) h C S :=
  fun p e s m args below meth c R X H locs cells slots ls hR hS h1 h2 hL => lv_if_ne X.1 X.2.1 hd ht (fun q => kt q p e s m args below meth c R X H locs cells slots ls hR hS h1 h2 hL) (fun q => kf q p e s m args below meth c R X H locs cells slots ls hR hS h1 h2 hL)
theorem wq_icmp_lt {x y : Int32} {off : Int} {tgt : Nat} (hd : decode M.2.1 pc = .ok (.if_icmp .lt off, 3)) (ht : (pc : Int) + off = (tgt : Int)) (kt : x < y → wq_T G l d M Q tgt L st h C S) (kf : ¬ x < y → wq_T G l d M Q (pc + 3) L st h C S) : wq_T G l d M Q pc L (.int y :: .int x :: st) h C S :=
  fun p e s m args below meth c R X H locs cells slots ls hR hS h1 h2 hL => lv_icmp_lt X.1 X.2.1 hd ht (fun q => kt q p e s m args below meth c R X H locs cells slots ls hR hS h1 h2 hL) (fun q => kf q p e s m args below meth c R X H locs cells slots ls hR hS h1 h2 hL)
theorem wq_if_lt {x : Int32} {off : Int} {tgt : Nat} (hd : decode M.2.1 pc = .ok (.ifCond .lt off, 3)) (ht : (pc : Int) + off = (tgt : Int)) (kt : x < 0 → wq_T G l d M Q tgt L st h C S) (kf : ¬ x < 0 → wq_T G l d M Q (pc + 3) L st h C S) : wq_T G l d M Q pc L (.int x :: st) h C S :=
  fun p e s m args below meth c R X H locs cells slots ls hR hS h1 h2 hL => lv_if_lt X.1 X.2.1 hd ht (fun q => kt q p e s m args below meth c R X H locs cells slots ls hR hS h1 h2 hL) (fun q => kf q p e s m args below meth c R X H locs cells slots ls hR hS h1 h2 hL)
theorem wq_icmp_ge {x y : Int32} {off : Int} {tgt : Nat} (hd : decode M.2.1 pc = .ok (.if_icmp .ge off, 3)) (ht : (pc : Int) + off = (tgt : Int)) (kt : y ≤ x → wq_T G l d M Q tgt L st h C S) (kf : ¬ y ≤ x → wq_T G l d M Q (pc + 3) L st h C S) : wq_T G l d M Q pc L (.int y :: .int x :: st) h C S :=
  fun p e s m args below meth c R X H locs cells slots ls hR hS h1 h2 hL => lv_icmp_ge X.1 X.2.1 hd ht (fun q => kt q p e s m args below meth c R X H locs cells slots ls hR hS h1 h2 hL) (fun q => kf q p e s m args below meth c R X H locs cells slots ls hR hS h1 h2 hL)
theorem wq_if_ge {x : Int32} {off : Int} {tgt : Nat} (hd : decode M.2.1 pc = .ok (.ifCond .ge off, 3)) (ht : (pc : Int) + off = (tgt : Int)) (kt : 0 ≤ x → wq_T G l d M Q tgt L st h C S) (kf : ¬ 0 ≤ x → wq_T G l d M Q (pc + 3) L st h C S) : wq_T G l d M Q pc L (.int x :: st) h C S :=
  fun p e s m args below meth c R X H locs cells slots ls hR hS h1 h2 hL => lv_if_ge X.1 X.2.1 hd ht (fun q => kt q p e s m args below meth c R X H locs cells slots ls hR hS h1 h2 hL) (fun q => kf q p e s m args below meth c R X H locs cells slots ls hR hS h1 h2 hL)
theorem wq_icmp_gt {x y : Int32} {off : Int} {tgt : Nat} (hd : decode M.2.1 pc = .ok (.if_icmp .gt off, 3)) (ht : (pc : Int) + off = (tgt : Int)) (kt : y < x → wq_T G l d M Q tgt L st h C S) (kf : ¬ y < x → wq_T G l d M Q (pc + 3) L st h C S) : wq_T G l d M Q pc L (.int y :: .int x :: st) h C S :=
  fun p e s m args below meth c R X H locs cells slots ls hR hS h1 h2 hL => lv_icmp_gt X.1 X.2.1 hd ht (fun q => kt q p e s m args below meth c R X H locs cells slots ls hR hS h1 h2 hL) (fun q => kf q p e s m args below meth c R X H locs cells slots ls hR hS h1 h2 hL)
theorem wq_if_gt {x : Int32} {off : Int} {tgt : Nat} (hd : decode M.2.1 pc = .ok (.ifCond .gt off, 3)) (ht : (pc : Int) + off = (tgt : Int)) (kt : 0 < x → wq_T G l d M Q tgt L st h C S) (kf : ¬ 0 < x → wq_T G l d M Q (pc + 3) L st h C S) : wq_T G l d M Q pc L (.int x :: st) h C S :=
  fun p e s m args below meth c R X H locs cells slots ls hR hS h1 h2 hL => lv_if_gt X.1 X.2.1 hd ht (fun q => kt q p e s m args below meth c R X H locs cells slots ls hR hS h1 h2 hL) (fun q => kf q p e s m args below meth c R X H locs cells slots ls hR hS h1 h2 hL)
theorem wq_icmp_le {x y : Int32} {off : Int} {tgt : Nat} (hd : decode M.2.1 pc = .ok (.if_icmp .le off, 3)) (ht : (pc : Int) + off = (tgt : Int)) (kt : x ≤ y → wq_T G l d M Q tgt L st h C S) (kf : ¬ x ≤ y → wq_T G l d M Q (pc + 3) L st h C S) : wq_T G l d M Q pc L (.int y :: .int x :: st) h C S :=
  fun p e s m args below meth c R X H locs cells slots ls hR hS h1 h2 hL => lv_icmp_le X.1 X.2.1 hd ht (fun q => kt q p e s m args below meth c R X H locs cells slots ls hR hS h1 h2 hL) (fun q => kf q p e s m args below meth c R X H locs cells slots ls hR hS h1 h2 hL)
theorem wq_if_le {x : Int32} {off : Int} {tgt : Nat} (hd : decode M.2.1 pc = .ok (.ifCond .le off, 3)) (ht : (pc : Int) + off = (tgt : Int)) (kt : x ≤ 0 → wq_T G l d M Q tgt L st h C S) (kf : ¬ x ≤ 0 → wq_T G l d M Q (pc + 3) L st h C S) : wq_T G l d M Q pc L (.int x :: st) h C S :=
  fun p e s m args below meth c R X H locs cells slots ls hR hS h1 h2 hL => lv_if_le X.1 X.2.1 hd ht (fun q => kt q p e s m args below meth c R X H locs cells slots ls hR hS h1 h2 hL) (fun q => kf q p e s m args below meth c R X H locs cells slots ls hR hS h1 h2 hL)
theorem wq_acmp_eq {x y : Option Nat} {off : Int} {tgt : Nat} (hd : decode M.2.1 pc = .ok (.if_acmp .eq off, 3)) (ht : (pc : Int) + off = (tgt : Int)) (kt : x = y → wq_T G l d M Q tgt L st h C S) (kf : ¬ x = y → wq_T G l d M Q (pc + 3) L st h C S) : wq_T G l d M Q pc L (va_rf y :: va_rf x :: st) h C S :=
  fun p e s m args below meth c R X H locs cells slots ls hR hS h1 h2 hL => lv_acmp_eq X.1 X.2.1 hd ht (fun q => kt q p e s m args below meth c R X H locs cells slots ls hR hS h1 h2 hL) (fun q => kf q p e s m args below meth c R X H locs cells slots ls hR hS h1 h2 hL)
theorem wq_acmp_ne {x y : Option Nat} {off : Int} {tgt : Nat} (hd : decode M.2.1 pc = .ok (.if_acmp .ne off, 3)) (ht : (pc : Int) + off = (tgt : Int)) (kt : ¬ x = y → wq_T G l d M Q tgt L st h C S) (kf : x = y → wq_T G l d M Q (pc + 3) L st h C S) : wq_T G l d M Q pc L (va_rf y :: va_rf x :: st) h C S :=
  fun p e s m args below meth c R X H locs cells slots ls hR hS h1 h2 hL => lv_acmp_ne X.1 X.2.1 hd ht (fun q => kt q p e s m args below meth c R X H locs cells slots ls hR hS h1 h2 hL) (fun q => kf q p e s m args below meth c R X H locs cells slots ls hR hS h1 h2 hL)
theorem wq_goto {off : Int} {tgt : Nat} (hd : decode M.2.1 pc = .ok (.goto off, 3)) (ht : (pc : Int) + off = (tgt : Int)) (k : wq_T G l d M Q tgt L st h C S) : wq_T G l d M Q pc L st h C S :=
  fun p e s m args below meth c R X H locs cells slots ls hR hS h1 h2 hL => lv_goto X.1 X.2.1 hd ht (k p e s m args below meth c R X H locs cells slots ls hR hS h1 h2 hL)
theorem wq_ifnull {r : Option Nat} {off : Int} {tgt : Nat} (hd : decode M.2.1 pc = .ok (.ifnull off, 3)) (ht : (pc : Int) + off = (tgt : Int)) (kt : r = none → wq_T G l d M Q tgt L st h C S) (kf : ∀ a, r = some a → wq_T G l d M Q (pc + 3) L st h C S) : wq_T G l d M Q pc L (va_rf r :: st) h C S := by
  cases r with
  | none => exact fun p e s m args below meth c R X H locs cells slots ls hR hS h1 h2 hL => lv_ifnullN X.1 X.2.1 hd ht (kt rfl p e s m args below meth c R X H locs cells slots ls hR hS h1 h2 hL)
  | some a => exact fun p e s m args below meth c R X H locs cells slots ls hR hS h1 h2 hL => lv_ifnull X.1 X.2.1 hd (kf a rfl p e s m args below meth c R X H locs cells slots ls hR hS h1 h2 hL)
theorem wq_ifnonnull {r : Option Nat} {off : Int} {tgt : Nat} (hd : decode M.2.1 pc = .ok (.ifnonnull off, 3)) (ht : (pc : Int) + off = (tgt : Int)) (kt : ∀ a, r = some a → wq_T G l d M Q tgt L st h C S) (kf : r = none → wq_T G l d M Q (pc + 3) L st h C S) : wq_T G l d M Q pc L (va_rf r :: st) h C S := by
  cases r with
  | none => exact fun p e s m args below meth c R X H locs cells slots ls hR hS h1 h2 hL => lv_ifnonnullN X.1 X.2.1 hd (kf rfl p e s m args below meth c R X H locs cells slots ls hR hS h1 h2 hL)
  | some a => exact fun p e s m args below meth c R X H locs cells slots ls hR hS h1 h2 hL => lv_ifnonnull X.1 X.2.1 hd ht (kt a rfl p e s m args below meth c R X H locs cells slots ls hR hS h1 h2 hL)
theorem wq_aload_nQ {k : Fin 4} {i : Nat} {r : Option Nat} (hd : decode M.2.1 pc = .ok (.aload_n k, 1)) (hi : (k : Nat) = i) (hv : L[i]? = some (some (va_rf r))) (kk : wq_T G l d M Q (pc + 1) L (va_rf r :: st) h C S) : wq_T G l d M Q pc L st h C S := by
  cases r with
  | none => exact wq_aload_nN hd hi hv kk
  | some a => exact wq_aload_n hd hi hv kk
theorem wq_astore_nQ {k : Fin 4} {i : Nat} {r : Option Nat} (hd : decode M.2.1 pc = .ok (.astore_n k, 1)) (hi : (k : Nat) = i) (hn : i < M.2.2.1) (hl : wq_s1 L i (va_rf r) = L') (kk : wq_T G l d M Q (pc + 1) L' st h C S) : wq_T G l d M Q pc L (va_rf r :: st) h C S := by
  cases r with
  | none => exact wq_astore_nN hd hi hn hl kk
  | some a => exact wq_astore_n hd hi hn hl kk
theorem wq_tableIn {dflt lo hi : Int} {offs : Array Int} {len : Nat} {x : Int32} {off : Int} {tgt : Nat} (hd : decode M.2.1 pc = .ok (.tableswitch dflt lo hi offs, len)) (h1' : ¬ x.toInt < lo) (h2' : ¬ hi < x.toInt) (ho : offs[(x.toInt - lo).toNat]? = some off) (ht : (pc : Int) + off = (tgt : Int)) (k : wq_T G l d M Q tgt L st h C S) : wq_T G l d M Q pc L (.int x :: st) h C S :=
  fun p e s m args below meth c R X H locs cells slots ls hR hS h1 h2 hL => lv_tableIn X.1 X.2.1 hd h1' h2' ho ht (k p e s m args below meth c R X H locs cells slots ls hR hS h1 h2 hL)
theorem wq_tableOut {dflt lo hi : Int} {offs : Array Int} {len : Nat} {x : Int32} {tgt : Nat} (hd : decode M.2.1 pc = .ok (.tableswitch dflt lo hi offs, len)) (h1' : x.toInt < lo ∨ hi < x.toInt) (ht : (pc : Int) + dflt = (tgt : Int)) (k : wq_T G l d M Q tgt L st h C S) : wq_T G l d M Q pc L (.int x :: st) h C S :=
  fun p e s m args below meth c R X H locs cells slots ls hR hS h1 h2 hL => lv_tableOut X.1 X.2.1 hd h1' ht (k p e s m args below meth c R X H locs cells slots ls hR hS h1 h2 hL)
theorem wq_lookup {dflt : Int} {ps : Array (Int × Int)} {len : Nat} {x : Int32} {off : Int} {tgt : Nat} (hd : decode M.2.1 pc = .ok (.lookupswitch dflt ps, len)) (hp : (ps.toList.zip (ps.toList.drop 1)).all (fun (a, next) => a.1 < next.1) = true) (ho : Op.lookupswitch.offset ps.toList dflt x.toInt = off) (ht : (pc : Int) + off = (tgt : Int)) (k : wq_T G l d M Q tgt L st h C S) : wq_T G l d M Q pc L (.int x :: st) h C S :=
  fun p e s m args below meth c R X H locs cells slots ls hR hS h1 h2 hL => lv_lookup X.1 X.2.1 hd hp ho ht (k p e s m args below meth c R X H locs cells slots ls hR hS h1 h2 hL)
end WQ
