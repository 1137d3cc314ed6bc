/-! THE LAYER wq_, second: cells, ends, contracts, calls -/
set_option maxRecDepth 100000
/-- the known locals at a method's entry -/
def wq_en : List Value → List (Option Value)
  | [] => []
  | v :: vs => if v.category = 2 then some v :: none :: wq_en vs else some v :: wq_en vs
theorem wq_en_at : ∀ (vs : List Value) (b i : Nat) (v : Value), (wq_en vs)[i]? = some (some v) → (b + i, v) ∈ lv_args b vs := by
  intro vs
  induction vs with
  | nil => intro b i v h; simp [wq_en] at h
  | cons w vs ih =>
    intro b i v h
    by_cases hc : w.category = 2
    · simp only [wq_en, hc, if_true] at h
      simp only [lv_args, hc, if_true]
      match i, h with
      | 0, h => simp at h; rw [h]; exact List.mem_cons_self
      | 1, h => simp at h
      | i + 2, h =>
        simp only [List.getElem?_cons_succ] at h
        have := ih (b + 2) i v h
        rw [show b + (i + 2) = b + 2 + i by omega]
        exact List.mem_cons_of_mem _ this
    · simp only [wq_en, hc, if_false] at h
      simp only [lv_args, hc, if_false]
      match i, h with
      | 0, h => simp at h; rw [h]; exact List.mem_cons_self
      | i + 1, h =>
        simp only [List.getElem?_cons_succ] at h
        have := ih (b + 1) i v h
        rw [show b + (i + 1) = b + 1 + i by omega]
        exact List.mem_cons_of_mem _ this
/-- none of what lies behind -/
def wq_pad (n : Nat) (L : List (Option Value)) : List (Option Value) := L ++ List.replicate (n - L.length) none
theorem wq_pad_at {n : Nat} {L : List (Option Value)} {i : Nat} {v : Value} (h : (wq_pad n L)[i]? = some (some v)) : L[i]? = some (some v) := by
  unfold wq_pad at h
  by_cases hi : i < L.length
  · rwa [List.getElem?_append_left hi] at h
  · rw [List.getElem?_append_right (by omega), List.getElem?_replicate] at h
    split at h <;> simp at h
/-- an array, as it lies there, be it a constant or our own -/
theorem wq_arr {G : wq_G} {s : State} {h : wq_H} {H : Heap} {locs : List Loc} (hE : wq_En G s) (hR : wq_R G h H) (hS : va_S (wq_A G) s.heap H locs) {a : Nat} {cA : ClassId} {x : vp_A} (ha : h a = some (.inl (cA, x))) {ty : FieldType} (ht : (cA, ty) ∈ wq_tys G) :
    ∃ cell : Cell, H[a]? = some cell ∧ cell.vm ≠ .unknown ∧ cell.slots = (vp_cell cA x).slots ∧ s.isArrayOf cell ty := by
  rcases hR.2 a _ ha with h1 | h1
  · refine ⟨vp_cell cA x, h1.2, ?_, rfl, ?_⟩
    · obtain ⟨n, x⟩ := x
      rcases x with f | f | f | f | f <;> exact fun q => by cases q
    · obtain ⟨t0, h0⟩ := List.getElem?_of_mem ht
      have hK := (hE.1.2 t0 _ h0).1
      obtain ⟨n, x⟩ := x
      rcases x with f | f | f | f | f <;> exact hK n _
  · obtain ⟨h2, cell, h3, h4, h5, h6⟩ := hE.2.2.2.1 a _ h1.2
    exact ⟨cell, by rw [hS.2.1 a (by have := hE.2.2.1; omega) (by unfold wq_A; omega)]; exact h3, h4, h5, h6 ty (List.mem_append_left _ ht)⟩
theorem wq_recv {G : wq_G} {s : State} {h : wq_H} {H : Heap} {locs : List Loc} (hE : wq_En G s) (hR : wq_R G h H) (hS : va_S (wq_A G) s.heap H locs) {a ci : Nat} {fs : List Value} (ha : h a = some (.inr (ci, fs))) {q : vw_C} (hc : vwCl[ci]? = some q) :
    ∃ cell : Cell, H[a]? = some cell ∧ cell.vm.isStatics = false ∧ s.vm.findClass q.1 = some cell.cls := by
  rcases hR.2 a _ ha with h1 | h1
  · obtain ⟨q0, h0⟩ := wq_ws_at hR ha h1.1
    exact va_recv hE.1 (wq_ws_P hR) hc h0
  · obtain ⟨h2, r, h3, ⟨cell, h4, h5, h6, h7⟩, -⟩ := hE.2.2.2.1 a _ h1.2
    have hr : r = q := Option.some.inj (h3.symm.trans hc)
    subst hr
    exact ⟨cell, by rw [hS.2.1 a (by have := hE.2.2.1; omega) (by unfold wq_A; omega)]; exact h4, h5, h6⟩
section WQ2
variable {G : wq_G} {l : Launch} {d : Nat} {M : wq_M} {Q : Option Value → wq_H → Prop} {pc : Nat} {L L' : List (Option Value)} {st : List Value} {h : wq_H} {C S : Nat}
theorem wq_iret {x : Int32} (hd : decode M.2.1 pc = .ok (.ireturn, 1)) (hr : M.2.2.2 = some .int) (hq : Q (some (.int x)) h) : wq_T G l d M Q pc L [.int x] h C S := by
  intro p e s m args below meth c R X H locs cells slots ls hR hS h1 h2 hL
  refine W.widen (k := R.cells) (n := R.slots) (by omega) (by omega) ?_
  exact W.iret X.1 X.2.1 (X.2.2.1.trans hr) (fun t ht hW => ⟨⟨_, h, rfl, hq, by rw [ht]; exact hR⟩, hS.F ht⟩) hS.2.2 hd X.2.2.2.2.2.2.1
theorem wq_zret {x : Int32} {ty : FieldType} (hd : decode M.2.1 pc = .ok (.ireturn, 1)) (hr : M.2.2.2 = some ty) (hn : narrow ty (.int x) = .int x) (hq : Q (some (.int x)) h) : wq_T G l d M Q pc L [.int x] h C S := by
  intro p e s m args below meth c R X H locs cells slots ls hR hS h1 h2 hL
  refine W.widen (k := R.cells) (n := R.slots) (by omega) (by omega) ?_
  exact W.zret X.1 X.2.1 (X.2.2.1.trans hr) hn (fun t ht hW => ⟨⟨_, h, rfl, hq, by rw [ht]; exact hR⟩, hS.F ht⟩) hS.2.2 hd X.2.2.2.2.2.2.1
theorem wq_lret {x : Int64} (hd : decode M.2.1 pc = .ok (.lreturn, 1)) (hr : M.2.2.2 = some .long) (hq : Q (some (.long x)) h) : wq_T G l d M Q pc L [.long x] h C S := by
  intro p e s m args below meth c R X H locs cells slots ls hR hS h1 h2 hL
  refine W.widen (k := R.cells) (n := R.slots) (by omega) (by omega) ?_
  exact W.lret X.1 X.2.1 (X.2.2.1.trans hr) (fun t ht hW => ⟨⟨_, h, rfl, hq, by rw [ht]; exact hR⟩, hS.F ht⟩) hS.2.2 hd X.2.2.2.2.2.2.1
theorem wq_vret (hd : decode M.2.1 pc = .ok (.return_, 1)) (hr : M.2.2.2 = none) (hq : Q none h) : wq_T G l d M Q pc L [] h C S := by
  intro p e s m args below meth c R X H locs cells slots ls hR hS h1 h2 hL
  refine W.widen (k := R.cells) (n := R.slots) (by omega) (by omega) ?_
  exact W.vret X.1 X.2.1 (X.2.2.1.trans hr) (fun t ht hW => ⟨⟨_, h, rfl, hq, by rw [ht]; exact hR⟩, hS.F ht⟩) hS.2.2 hd X.2.2.2.2.2.2.1
theorem wq_aret {r : Option Nat} {rt : FieldType} (hd : decode M.2.1 pc = .ok (.areturn, 1)) (hr : M.2.2.2 = some rt) (hrt : rt.isReference = true) (hq : Q (some (va_rf r)) h) : wq_T G l d M Q pc L [va_rf r] h C S := by
  intro p e s m args below meth c R X H locs cells slots ls hR hS h1 h2 hL
  refine W.widen (k := R.cells) (n := R.slots) (by omega) (by omega) ?_
  refine W.aret (v := va_rf r) X.1 X.2.1 (X.2.2.1.trans hr) ?_ ?_ (fun t ht hW => ⟨⟨_, h, rfl, hq, by rw [ht]; exact hR⟩, hS.F ht⟩) hS.2.2 hd X.2.2.2.2.2.2.1
  · cases rt <;> first | exact Or.inl ⟨_, rfl⟩ | exact Or.inr ⟨_, rfl⟩ | cases hrt
  · cases r with
    | none => exact Or.inl rfl
    | some a => exact Or.inr ⟨a, rfl⟩
/-- a field read: of our own cells or of the constants -/
theorem wq_getf {idx a ci k N : Nat} {fs : List Value} {Cn ref : String} {T : u_T} {v : Value} (hc : vwCl[ci]? = some (Cn, T, N)) (hin : ∀ w ∈ u_ws Cn T N, w ∈ lw_all) (hk : k < N) (hl : Cond.fieldLink M.1.cls idx ref (T k).2.1 (T k).2.2.1 ∈ lw_all)
    (hsame : ref = (T k).1 ∨ Cond.sameField ref (T k).1 (T k).2.1 (T k).2.2.1 ∈ lw_all) (hd : decode M.2.1 pc = .ok (.getfield idx, 3)) (hh : h a = some (.inr (ci, fs))) (hv : fs[k]? = some v)
    (kk : wq_T G l d M Q (pc + 3) L (v :: st) h C S) : wq_T G l d M Q pc L (.ref a :: st) h C S := by
  intro p e s m args below meth c R X H locs cells slots ls hR hS h1 h2 hL
  obtain ⟨x1, x2, x3, x4, x5, x6, x7, x8, hE, x9⟩ := id X
  have hs : ∀ x, s.fieldFound? (T k).1 (T k).2.1 (T k).2.2.1 = some x → s.fieldFound? ref (T k).2.1 (T k).2.2.1 = some x := by
    rcases hsame with q | q
    · rw [q]; exact fun _ z => z
    · exact u_same (x6 _ q)
  rcases hR.2 a _ hh with q | q
  · obtain ⟨q0, h0⟩ := wq_ws_at hR hh q.1
    exact va_get (D := G.2.1) (C := Cn) (T := T) (N := N) x1 x2 x6 hin x5 hE.1 (wq_ws_P hR) q0 h0 hc k hk (x6 _ hl) hs hv hd (kk p e s m args below meth c R X H locs cells slots ls hR hS h1 h2 hL)
  · obtain ⟨h3, r, h4, -, h5⟩ := hE.2.2.2.1 a _ q.2
    have hr : r = (Cn, T, N) := Option.some.inj (h4.symm.trans hc)
    subst hr
    exact vk_getf x1 x2 (h5 k v hk hv) hS x5 (x6 _ hl) hs hd (kk p e s m args below meth c R X H locs cells slots ls hR hS h1 h2 hL)
theorem wq_getN {idx a ci k N : Nat} {fs : List Value} {Cn ref host : String} {T : u_T} {v : Value} (hc : vwCl[ci]? = some (Cn, T, N)) (hin : ∀ w ∈ u_ws Cn T N, w ∈ lw_all) (hk : k < N) (hl : Cond.fieldLinkNest M.1.cls idx ref (T k).2.1 (T k).2.2.1 host ∈ wq_nw)
    (hsame : ref = (T k).1) (hd : decode M.2.1 pc = .ok (.getfield idx, 3)) (hh : h a = some (.inr (ci, fs))) (hz : G.1 ≤ a) (hv : fs[k]? = some v)
    (kk : wq_T G l d M Q (pc + 3) L (v :: st) h C S) : wq_T G l d M Q pc L (.ref a :: st) h C S := by
  intro p e s m args below meth c R X H locs cells slots ls hR hS h1 h2 hL
  obtain ⟨x1, x2, x3, x4, x5, x6, x7, x8, hE, x9⟩ := id X
  obtain ⟨q0, h0⟩ := wq_ws_at hR hh hz
  exact va_getN (D := G.2.1) (C := Cn) (T := T) (N := N) x1 x2 x6 hin x5 hE.1 (wq_ws_P hR) q0 h0 hc k hk (va_Nw.use rfl (hE.2.1 _ hl)) (by rw [hsame]; exact fun _ z => z) hv hd (kk p e s m args below meth c R X H locs cells slots ls hR hS h1 h2 hL)
theorem wq_putf {idx a ci k N : Nat} {fs : List Value} {Cn ref : String} {T : u_T} {v : Value} (ty0 : Nat → FieldType) (hty : ∀ k, k < N → parseFieldDescriptor (T k).2.2.1 = some (ty0 k)) (hnm : ∀ a, a < N → ∀ b, b < N → a ≠ b → (T a).2.1 ≠ (T b).2.1) (hc : vwCl[ci]? = some (Cn, T, N)) (hin : ∀ w ∈ u_ws Cn T N, w ∈ lw_all) (hk : k < N) (hl : Cond.fieldLink M.1.cls idx ref (T k).2.1 (T k).2.2.1 ∈ lw_all)
    (hsame : ref = (T k).1 ∨ Cond.sameField ref (T k).1 (T k).2.1 (T k).2.2.1 ∈ lw_all) (hfin : (T k).2.2.2 = false ∨ (M.1.name = "<init>" ∧ (T k).1 = M.1.cls ∧ (T k).2.2.2 = true)) {ty : FieldType} (hdty : parseFieldDescriptor (T k).2.2.1 = some ty) (hd : decode M.2.1 pc = .ok (.putfield idx, 3)) (hn : narrow ty v = v) (hfit : fits ty v = true) (hh : h a = some (.inr (ci, fs))) (hz : G.1 ≤ a) (hlen : k < fs.length)
    (kk : wq_T G l d M Q (pc + 3) L st (wq_set h a (.inr (ci, fs.set k v))) C S) : wq_T G l d M Q pc L (v :: .ref a :: st) h C S := by
  intro p e s m args below meth c R X H locs cells slots ls hR hS h1 h2 hL
  obtain ⟨x1, x2, x3, x4, x5, x6, x7, x8, hE, x9⟩ := id X
  have hs : ∀ x, s.fieldFound? (T k).1 (T k).2.1 (T k).2.2.1 = some x → s.fieldFound? ref (T k).2.1 (T k).2.2.1 = some x := by
    rcases hsame with q | q
    · rw [q]; exact fun _ z => z
    · exact u_same (x6 _ q)
  obtain ⟨q0, h0⟩ := wq_ws_at hR hh hz
  have go : ∀ (H1 : Heap) (locs1 : List Loc), va_P G.2.1 vwCl ((wq_ws G h H.size).set q0 (a, .inr (ci, fs.set k v))) H1 → va_D (wq_A G) ((wq_ws G h H.size).set q0 (a, .inr (ci, fs.set k v))) → va_S (wq_A G) s.heap H1 locs1 → W p l e R s m args below meth c H1 locs1 cells slots (MQ below (wq_Qc G Q) args s R.cells R.slots (wq_A G)) (F0 m (pc + 3) ls st) :=
    fun H1 locs1 hP hD hS1 => kk p e s m args below meth c R X H1 locs1 cells slots ls (hR.put hz h0 hP (Nat.le_trans hE.2.2.1 hS1.1)) hS1 h1 h2 hL
  rcases hfin with hf | hf
  · exact va_put (D := G.2.1) (C := Cn) (T := T) (N := N) (A := wq_A G) (H0 := s.heap) x1 x2 x6 hin ty0 hty hnm x5 hE.1 (wq_ws_P hR) (wq_ws_D G h H.size) hS q0 h0 hc k hk (x6 _ hl) hs hf hdty hn hfit hlen hd go
  · exact va_putF (D := G.2.1) (C := Cn) (T := T) (N := N) (A := wq_A G) (H0 := s.heap) x1 x2 x6 hin ty0 hty hnm x5 hE.1 (wq_ws_P hR) (wq_ws_D G h H.size) hS q0 h0 hc k hk (x6 _ hl) hs hf.2.2 (x8.trans hf.1) hf.2.1 hdty hn hfit hlen hd go
theorem wq_putN {idx a ci k N : Nat} {fs : List Value} {Cn ref host : String} {T : u_T} {v : Value} (ty0 : Nat → FieldType) (hty : ∀ k, k < N → parseFieldDescriptor (T k).2.2.1 = some (ty0 k)) (hnm : ∀ a, a < N → ∀ b, b < N → a ≠ b → (T a).2.1 ≠ (T b).2.1) (hc : vwCl[ci]? = some (Cn, T, N)) (hin : ∀ w ∈ u_ws Cn T N, w ∈ lw_all) (hk : k < N) (hl : Cond.fieldLinkNest M.1.cls idx ref (T k).2.1 (T k).2.2.1 host ∈ wq_nw)
    (hsame : ref = (T k).1) (hfin : (T k).2.2.2 = false) {ty : FieldType} (hdty : parseFieldDescriptor (T k).2.2.1 = some ty) (hd : decode M.2.1 pc = .ok (.putfield idx, 3)) (hn : narrow ty v = v) (hfit : fits ty v = true) (hh : h a = some (.inr (ci, fs))) (hz : G.1 ≤ a) (hlen : k < fs.length)
    (kk : wq_T G l d M Q (pc + 3) L st (wq_set h a (.inr (ci, fs.set k v))) C S) : wq_T G l d M Q pc L (v :: .ref a :: st) h C S := by
  intro p e s m args below meth c R X H locs cells slots ls hR hS h1 h2 hL
  obtain ⟨x1, x2, x3, x4, x5, x6, x7, x8, hE, x9⟩ := id X
  obtain ⟨q0, h0⟩ := wq_ws_at hR hh hz
  exact va_putN (D := G.2.1) (C := Cn) (T := T) (N := N) (A := wq_A G) (H0 := s.heap) x1 x2 x6 hin ty0 hty hnm x5 hE.1 (wq_ws_P hR) (wq_ws_D G h H.size) hS q0 h0 hc k hk (va_Nw.use rfl (hE.2.1 _ hl)) (by rw [hsame]; exact fun _ z => z) hfin hdty hn hfit hlen hd
    (fun H1 locs1 hP hD hS1 => kk p e s m args below meth c R X H1 locs1 cells slots ls (hR.put hz h0 hP (Nat.le_trans hE.2.2.1 hS1.1)) hS1 h1 h2 hL)
/-- arrays read -/
theorem wq_iald {a n : Nat} {f : Nat → Int32} {i : Int32} (hd : decode M.2.1 pc = .ok (.iaload, 1)) (hh : h a = some (.inl (G.2.2.1 0, n, .inl f))) (hi : vp_in i n) (kk : wq_T G l d M Q (pc + 1) L (.int (f i.toNatClampNeg) :: st) h C S) : wq_T G l d M Q pc L (.int i :: .ref a :: st) h C S := by
  intro p e s m args below meth c R X H locs cells slots ls hR hS h1 h2 hL
  obtain ⟨cell, g1, g2, g3, g4⟩ := wq_arr X.2.2.2.2.2.2.2.2.1 hR hS hh (ty := .int) (by simp)
  have hlt : i.toNatClampNeg < n := Nat.not_le.mp fun q => hi (Or.inr q)
  exact W.iald (v := .int (f i.toNatClampNeg)) X.1 X.2.1 g1 g4 g2 (by rw [g3]; show ¬ (i < 0 ∨ (arrV _ _ _).slots.size ≤ _); rw [arrV_size]; exact hi) (by rw [g3]; show (arrV _ _ _).slots[_]? = _; rw [arrV_read _ _ hlt]) rfl rfl hd (kk p e s m args below meth c R X H locs cells slots ls hR hS h1 h2 hL)
theorem wq_bald {a n : Nat} {f : Nat → Int32} {i : Int32} (hd : decode M.2.1 pc = .ok (.baload, 1)) (hh : h a = some (.inl (G.2.2.1 2, n, .inl f))) (hi : vp_in i n) (kk : wq_T G l d M Q (pc + 1) L (.int (f i.toNatClampNeg) :: st) h C S) : wq_T G l d M Q pc L (.int i :: .ref a :: st) h C S := by
  intro p e s m args below meth c R X H locs cells slots ls hR hS h1 h2 hL
  obtain ⟨cell, g1, g2, g3, g4⟩ := wq_arr X.2.2.2.2.2.2.2.2.1 hR hS hh (ty := .byte) (by simp)
  have hlt : i.toNatClampNeg < n := Nat.not_le.mp fun q => hi (Or.inr q)
  exact W.bald (v := .int (f i.toNatClampNeg)) X.1 X.2.1 g1 g4 g2 (by rw [g3]; show ¬ (i < 0 ∨ (arrV _ _ _).slots.size ≤ _); rw [arrV_size]; exact hi) (by rw [g3]; show (arrV _ _ _).slots[_]? = _; rw [arrV_read _ _ hlt]) rfl rfl hd (kk p e s m args below meth c R X H locs cells slots ls hR hS h1 h2 hL)
theorem wq_lald {a n : Nat} {f : Nat → Int64} {i : Int32} (hd : decode M.2.1 pc = .ok (.laload, 1)) (hh : h a = some (.inl (G.2.2.1 1, n, .inr (.inl f)))) (hi : vp_in i n) (kk : wq_T G l d M Q (pc + 1) L (.long (f i.toNatClampNeg) :: st) h C S) : wq_T G l d M Q pc L (.int i :: .ref a :: st) h C S := by
  intro p e s m args below meth c R X H locs cells slots ls hR hS h1 h2 hL
  obtain ⟨cell, g1, g2, g3, g4⟩ := wq_arr X.2.2.2.2.2.2.2.2.1 hR hS hh (ty := .long) (by simp)
  have hlt : i.toNatClampNeg < n := Nat.not_le.mp fun q => hi (Or.inr q)
  exact W.lald (v := .long (f i.toNatClampNeg)) X.1 X.2.1 g1 g4 g2 (by rw [g3]; show ¬ (i < 0 ∨ (arrV _ _ _).slots.size ≤ _); rw [arrV_size]; exact hi) (by rw [g3]; show (arrV _ _ _).slots[_]? = _; rw [arrV_read _ _ hlt]) rfl rfl hd (kk p e s m args below meth c R X H locs cells slots ls hR hS h1 h2 hL)
theorem wq_aald {a n : Nat} {f : Nat → Option Nat} {i : Int32} (hd : decode M.2.1 pc = .ok (.aaload, 1)) (hh : h a = some (.inl (G.2.2.1 3, n, .inr (.inr (.inr (.inr f)))))) (hi : vp_in i n) (kk : wq_T G l d M Q (pc + 1) L (va_rf (f i.toNatClampNeg) :: st) h C S) : wq_T G l d M Q pc L (.int i :: .ref a :: st) h C S := by
  intro p e s m args below meth c R X H locs cells slots ls hR hS h1 h2 hL
  obtain ⟨cell, g1, g2, g3, g4⟩ := wq_arr X.2.2.2.2.2.2.2.2.1 hR hS hh (ty := .object "java/lang/Object") (by simp)
  have hlt : i.toNatClampNeg < n := Nat.not_le.mp fun q => hi (Or.inr q)
  exact W.aald (v := va_rf (f i.toNatClampNeg)) X.1 X.2.1 g1 g4 rfl g2 (by rw [g3]; show ¬ (i < 0 ∨ (arrV _ _ _).slots.size ≤ _); rw [arrV_size]; exact hi) (by rw [g3]; show (arrV _ _ _).slots[_]? = _; rw [arrV_read _ _ hlt]) rfl rfl hd (kk p e s m args below meth c R X H locs cells slots ls hR hS h1 h2 hL)
theorem wq_alen {a : Nat} {cA : ClassId} {x : vp_A} {ty : FieldType} (hd : decode M.2.1 pc = .ok (.arraylength, 1)) (ht : (cA, ty) ∈ wq_tys G) (hh : h a = some (.inl (cA, x))) (kk : wq_T G l d M Q (pc + 1) L (.int (Int32.ofNat x.1) :: st) h C S) : wq_T G l d M Q pc L (.ref a :: st) h C S := by
  intro p e s m args below meth c R X H locs cells slots ls hR hS h1 h2 hL
  obtain ⟨cell, g1, g2, g3, g4⟩ := wq_arr X.2.2.2.2.2.2.2.2.1 hR hS hh ht
  refine W.alen (n := Int32.ofNat x.1) X.1 X.2.1 g1 g4 ?_ rfl rfl hd (kk p e s m args below meth c R X H locs cells slots ls hR hS h1 h2 hL)
  rw [g3]
  obtain ⟨n, x⟩ := x
  rcases x with f | f | f | f | f <;> (show (arrV _ _ _).slots.size.toInt32 = _; rw [arrV_size])
theorem wq_ldc {idx : Nat} {v : Int32} (hl : Cond.constant M.1.cls idx v ∈ lw_all) (hd : decode M.2.1 pc = .ok (.ldc idx, 2)) (kk : wq_T G l d M Q (pc + 2) L (.int v :: st) h C S) : wq_T G l d M Q pc L st h C S :=
  fun p e s m args below meth c R X H locs cells slots ls hR hS h1 h2 hL => lv_ldc X.1 X.2.1 X.2.2.2.2.1 (X.2.2.2.2.2.1 _ hl) hd (kk p e s m args below meth c R X H locs cells slots ls hR hS h1 h2 hL)
theorem wq_ldcw {idx : Nat} {v : Int32} (hl : Cond.constant M.1.cls idx v ∈ lw_all) (hd : decode M.2.1 pc = .ok (.ldc_w idx, 3)) (kk : wq_T G l d M Q (pc + 3) L (.int v :: st) h C S) : wq_T G l d M Q pc L st h C S :=
  fun p e s m args below meth c R X H locs cells slots ls hR hS h1 h2 hL => lv_ldcw X.1 X.2.1 X.2.2.2.2.1 (X.2.2.2.2.2.1 _ hl) hd (kk p e s m args below meth c R X H locs cells slots ls hR hS h1 h2 hL)
theorem wq_ldc2 {idx : Nat} {v : Int64} (hl : Cond.constantLong M.1.cls idx v ∈ lw_all) (hd : decode M.2.1 pc = .ok (.ldc2_w idx, 3)) (kk : wq_T G l d M Q (pc + 3) L (.long v :: st) h C S) : wq_T G l d M Q pc L st h C S :=
  fun p e s m args below meth c R X H locs cells slots ls hR hS h1 h2 hL => lv_ldc2 X.1 X.2.1 X.2.2.2.2.1 (X.2.2.2.2.2.1 _ hl) hd (kk p e s m args below meth c R X H locs cells slots ls hR hS h1 h2 hL)
theorem wq_ldcS {idx a : Nat} {tx : String} (hl : (M.1.cls, idx, tx, a) ∈ wq_strs G) (hd : decode M.2.1 pc = .ok (.ldc idx, 2)) (kk : wq_T G l d M Q (pc + 2) L (.ref a :: st) h C S) : wq_T G l d M Q pc L st h C S :=
  fun p e s m args below meth c R X H locs cells slots ls hR hS h1 h2 hL => va_ldcS X.1 X.2.1 X.2.2.2.2.1 (X.2.2.2.2.2.2.2.2.1.2.2.2.2.2.2.1 _ hl) hd (kk p e s m args below meth c R X H locs cells slots ls hR hS h1 h2 hL)
theorem wq_gets {idx : Nat} {Cn n ds : String} {v : Value} (hm : (Cn, n, ds, v) ∈ wq_sts G) (hl : Cond.fieldLink M.1.cls idx Cn n ds ∈ lw_all) (hd : decode M.2.1 pc = .ok (.getstatic idx, 3)) (kk : wq_T G l d M Q (pc + 3) L (v :: st) h C S) : wq_T G l d M Q pc L st h C S :=
  fun p e s m args below meth c R X H locs cells slots ls hR hS h1 h2 hL => va_gets X.1 X.2.1 (X.2.2.2.2.2.2.2.2.1.2.2.2.2.1 _ hm) hS X.2.2.2.2.1 (X.2.2.2.2.2.1 _ hl) (fun _ z => z) hd (kk p e s m args below meth c R X H locs cells slots ls hR hS h1 h2 hL)
/-- arrays written: our own -/
theorem wq_iast {a n : Nat} {f : Nat → Int32} {i x : Int32} (hd : decode M.2.1 pc = .ok (.iastore, 1)) (hh : h a = some (.inl (G.2.2.1 0, n, .inl f))) (hz : G.1 ≤ a) (hi : vp_in i n) (kk : wq_T G l d M Q (pc + 1) L st (wq_set h a (.inl (G.2.2.1 0, n, .inl (upd f i.toNatClampNeg x)))) C S) : wq_T G l d M Q pc L (.int x :: .int i :: .ref a :: st) h C S := by
  intro p e s m args below meth c R X H locs cells slots ls hR hS h1 h2 hL
  have hE := X.2.2.2.2.2.2.2.2.1
  obtain ⟨q0, h0⟩ := wq_ws_at hR hh hz
  exact va_iast (D := G.2.1) (A := wq_A G) (H0 := s.heap) X.1 X.2.1 hE.1 (wq_ws_P hR) (wq_ws_D G h H.size) hS q0 0 h0 rfl hi hd (fun H1 locs1 hP hD hS1 => kk p e s m args below meth c R X H1 locs1 cells slots ls (hR.put hz h0 hP (Nat.le_trans hE.2.2.1 hS1.1)) hS1 h1 h2 hL)
theorem wq_bast {a n : Nat} {f : Nat → Int32} {i x : Int32} (hd : decode M.2.1 pc = .ok (.bastore, 1)) (hh : h a = some (.inl (G.2.2.1 2, n, .inl f))) (hz : G.1 ≤ a) (hi : vp_in i n) (kk : wq_T G l d M Q (pc + 1) L st (wq_set h a (.inl (G.2.2.1 2, n, .inl (upd f i.toNatClampNeg (vp_nar .byte x))))) C S) : wq_T G l d M Q pc L (.int x :: .int i :: .ref a :: st) h C S := by
  intro p e s m args below meth c R X H locs cells slots ls hR hS h1 h2 hL
  have hE := X.2.2.2.2.2.2.2.2.1
  obtain ⟨q0, h0⟩ := wq_ws_at hR hh hz
  exact va_bast (D := G.2.1) (A := wq_A G) (H0 := s.heap) X.1 X.2.1 hE.1 (wq_ws_P hR) (wq_ws_D G h H.size) hS q0 2 h0 rfl hi hd (fun H1 locs1 hP hD hS1 => kk p e s m args below meth c R X H1 locs1 cells slots ls (hR.put hz h0 hP (Nat.le_trans hE.2.2.1 hS1.1)) hS1 h1 h2 hL)
theorem wq_last {a n : Nat} {f : Nat → Int64} {i : Int32} {x : Int64} (hd : decode M.2.1 pc = .ok (.lastore, 1)) (hh : h a = some (.inl (G.2.2.1 1, n, .inr (.inl f)))) (hz : G.1 ≤ a) (hi : vp_in i n) (kk : wq_T G l d M Q (pc + 1) L st (wq_set h a (.inl (G.2.2.1 1, n, .inr (.inl (vp_updL f i.toNatClampNeg x))))) C S) : wq_T G l d M Q pc L (.long x :: .int i :: .ref a :: st) h C S := by
  intro p e s m args below meth c R X H locs cells slots ls hR hS h1 h2 hL
  have hE := X.2.2.2.2.2.2.2.2.1
  obtain ⟨q0, h0⟩ := wq_ws_at hR hh hz
  exact va_last (D := G.2.1) (A := wq_A G) (H0 := s.heap) X.1 X.2.1 hE.1 (wq_ws_P hR) (wq_ws_D G h H.size) hS q0 1 h0 rfl hi hd (fun H1 locs1 hP hD hS1 => kk p e s m args below meth c R X H1 locs1 cells slots ls (hR.put hz h0 hP (Nat.le_trans hE.2.2.1 hS1.1)) hS1 h1 h2 hL)
/-- a new object, a new array -/
theorem wq_new {idx ci N : Nat} {Cn : String} {T : u_T} {fs : List Value} (ty0 : Nat → FieldType) (hty : ∀ k, k < N → parseFieldDescriptor (T k).2.2.1 = some (ty0 k)) (hc : vwCl[ci]? = some (Cn, T, N)) (hin : ∀ w ∈ u_ws Cn T N, w ∈ lw_all) (hl : Cond.classLink M.1.cls idx Cn ∈ lw_all) (hi : Cond.instantiable Cn N ∈ lw_all) (hini : Cond.initialized Cn ∈ lw_all) (hfs : ∀ j, j < N → defaultValue (ty0 j) = vp_V fs j)
    (hd : decode M.2.1 pc = .ok (.new idx, 3)) (kk : ∀ q, h q = none → G.1 ≤ q → wq_T G l d M Q (pc + 3) L (.ref q :: st) (wq_set h q (.inr (ci, fs))) C S) : wq_T G l d M Q pc L st h (C + 1) (S + N) := by
  intro p e s m args below meth c R X H locs cells slots ls hR hS h1 h2 hL
  obtain ⟨x1, x2, x3, x4, x5, x6, x7, x8, hE, x9⟩ := id X
  refine va_new (D := G.2.1) (C := Cn) (T := T) (N := N) (A := wq_A G) (H0 := s.heap) x1 x2 x6 hin ty0 hty x5 (x6 _ hl) (x6 _ hi) (x6 _ hini) hE.1 (wq_ws_P hR) (wq_ws_D G h H.size) hS (fun q hq => Nat.le_trans hE.2.2.1 hq) hc hfs (by omega) (by omega) hd (fun q H1 hP hD hS1 => ?_)
  obtain ⟨g1, g2, g3⟩ := hR.new hP hD (Nat.le_trans hE.2.2.1 hS1.1)
  exact kk q g1 g2 p e s m args below meth c R X H1 locs (cells + 1) (slots + N) ls g3 hS1 (by omega) (by omega) hL
theorem wq_newI {n : Int32} {N : Nat} (hd : decode M.2.1 pc = .ok (.newarray .int, 2)) (hw : Cond.arrayClass .int ∈ lw_all) (hn : ¬ n < 0) (hN : n.toNatClampNeg = N) (hb : N ≤ 100000)
    (kk : ∀ q, h q = none → G.1 ≤ q → wq_T G l d M Q (pc + 2) L (.ref q :: st) (wq_set h q (.inl (G.2.2.1 0, N, .inl (fun _ => 0)))) C S) : wq_T G l d M Q pc L (.int n :: st) h (C + 1) (S + N) := by
  intro p e s m args below meth c R X H locs cells slots ls hR hS h1 h2 hL
  obtain ⟨x1, x2, x3, x4, x5, x6, x7, x8, hE, x9⟩ := id X
  refine va_newa (D := G.2.1) (A := wq_A G) (H0 := s.heap) (atype := .int) (a0 := (N, .inl (fun _ => 0))) x1 x2 (x6 _ hw) rfl hE.1 (wq_ws_P hR) (wq_ws_D G h H.size) hS (fun q hq => Nat.le_trans hE.2.2.1 hq) (fun _ => rfl) hn hN (show N * 4 ≤ 536870912 by omega) (by omega) (by omega) hd (fun q cA H1 hK hP hD hS1 => ?_)
  have e1 : s.vm.findClass ("[" ++ FieldType.int.toString) = some cA := (hK.2 4 _ rfl).2
  have e2 : s.vm.findClass ("[" ++ FieldType.int.toString) = some (G.2.2.1 0) := (hE.1.2 0 _ rfl).2
  cases e1.symm.trans e2
  obtain ⟨g1, g2, g3⟩ := hR.new hP hD (Nat.le_trans hE.2.2.1 hS1.1)
  exact kk q g1 g2 p e s m args below meth c R X H1 locs (cells + 1) (slots + N) ls g3 hS1 (by omega) (by omega) hL
theorem wq_newB {n : Int32} {N : Nat} (hd : decode M.2.1 pc = .ok (.newarray .byte, 2)) (hw : Cond.arrayClass .byte ∈ lw_all) (hn : ¬ n < 0) (hN : n.toNatClampNeg = N) (hb : N ≤ 100000)
    (kk : ∀ q, h q = none → G.1 ≤ q → wq_T G l d M Q (pc + 2) L (.ref q :: st) (wq_set h q (.inl (G.2.2.1 2, N, .inl (fun _ => 0)))) C S) : wq_T G l d M Q pc L (.int n :: st) h (C + 1) (S + N) := by
  intro p e s m args below meth c R X H locs cells slots ls hR hS h1 h2 hL
  obtain ⟨x1, x2, x3, x4, x5, x6, x7, x8, hE, x9⟩ := id X
  refine va_newa (D := G.2.1) (A := wq_A G) (H0 := s.heap) (atype := .byte) (a0 := (N, .inl (fun _ => 0))) x1 x2 (x6 _ hw) rfl hE.1 (wq_ws_P hR) (wq_ws_D G h H.size) hS (fun q hq => Nat.le_trans hE.2.2.1 hq) (fun _ => rfl) hn hN (show N * 1 ≤ 536870912 by omega) (by omega) (by omega) hd (fun q cA H1 hK hP hD hS1 => ?_)
  have e1 : s.vm.findClass ("[" ++ FieldType.byte.toString) = some cA := (hK.2 4 _ rfl).2
  have e2 : s.vm.findClass ("[" ++ FieldType.byte.toString) = some (G.2.2.1 2) := (hE.1.2 2 _ rfl).2
  cases e1.symm.trans e2
  obtain ⟨g1, g2, g3⟩ := hR.new hP hD (Nat.le_trans hE.2.2.1 hS1.1)
  exact kk q g1 g2 p e s m args below meth c R X H1 locs (cells + 1) (slots + N) ls g3 hS1 (by omega) (by omega) hL
theorem wq_newL {n : Int32} {N : Nat} (hd : decode M.2.1 pc = .ok (.newarray .long, 2)) (hw : Cond.arrayClass .long ∈ lw_all) (hn : ¬ n < 0) (hN : n.toNatClampNeg = N) (hb : N ≤ 100000)
    (kk : ∀ q, h q = none → G.1 ≤ q → wq_T G l d M Q (pc + 2) L (.ref q :: st) (wq_set h q (.inl (G.2.2.1 1, N, .inr (.inl (fun _ => 0))))) C S) : wq_T G l d M Q pc L (.int n :: st) h (C + 1) (S + N) := by
  intro p e s m args below meth c R X H locs cells slots ls hR hS h1 h2 hL
  obtain ⟨x1, x2, x3, x4, x5, x6, x7, x8, hE, x9⟩ := id X
  refine va_newa (D := G.2.1) (A := wq_A G) (H0 := s.heap) (atype := .long) (a0 := (N, .inr (.inl (fun _ => 0)))) x1 x2 (x6 _ hw) rfl hE.1 (wq_ws_P hR) (wq_ws_D G h H.size) hS (fun q hq => Nat.le_trans hE.2.2.1 hq) (fun _ => rfl) hn hN (show N * 8 ≤ 536870912 by omega) (by omega) (by omega) hd (fun q cA H1 hK hP hD hS1 => ?_)
  have e1 : s.vm.findClass ("[" ++ FieldType.long.toString) = some cA := (hK.2 4 _ rfl).2
  have e2 : s.vm.findClass ("[" ++ FieldType.long.toString) = some (G.2.2.1 1) := (hE.1.2 1 _ rfl).2
  cases e1.symm.trans e2
  obtain ⟨g1, g2, g3⟩ := hR.new hP hD (Nat.le_trans hE.2.2.1 hS1.1)
  exact kk q g1 g2 p e s m args below meth c R X H1 locs (cells + 1) (slots + N) ls g3 hS1 (by omega) (by omega) hL
/-- a contract out of the body's walk -/
theorem wq_C.of {mc ms : Nat} {args : List Value} (hy : plainName M.1.cls = true) (hlen : (lg_sl args).length ≤ M.2.2.1) (hl : wq_pad M.2.2.1 (wq_en args) = L) (k : wq_T G l d M Q 0 L [] h mc ms) : wq_C G l d mc ms M args h Q := by
  subst hl
  refine Met.ofW (cc := M.2.1) (maxL := M.2.2.1) (ret := M.2.2.2) hy rfl ?_
  intro p e s m as below meth c s₁ B hml hv
  obtain ⟨rfl, hE, hR⟩ := hv
  have hts := atoms_spec (ws := ws_ M.1 M.2.1 M.2.2.1 M.2.2.2) B.pre
  have hts : ∀ w ∈ lw_all, w.before _ s = true := fun w h => hts w (List.mem_cons_of_mem _ h)
  have hl := lv_entry args hlen
  rw [lg_entry_eq]
  refine k p e s m args.toArray below meth c _ ⟨B.exec, B.bytes, B.returns, hml, findClass_of_methodNamed B.named, hts, B.notSynchronized, (name_of_methodNamed B.named B.method).1, hE, Nat.le_refl _, Nat.le_refl _⟩ s.heap [] 0 0 _ hR va_S.rf ?_ ?_ ⟨hl.1, hl.2.1, fun i v hi => ?_⟩
  · exact Nat.le_of_eq (Nat.zero_add _)
  · exact Nat.le_of_eq (Nat.zero_add _)
  · have h3 := wq_en_at args 0 i v (wq_pad_at hi)
    rw [Nat.zero_add] at h3
    exact hl.2.2 (i, v) h3
/-- behind a call -/
theorem wq_after {p : Program} {e : Env} {s : State} {m : MethodId} {args : Array Value} {below : List Frame} {meth : Method} {c : Code} {R : Room} (X : wq_X G d M p s m args meth c R) {H : Heap} {locs : List Loc} {cells slots mc ms : Nat} {ls : Array Slot} {Q' : Option Value → wq_H → Prop} {a : Array Value} {st0 : List Value}
    (hr : va_Run p l e R s m args below meth c H locs cells slots mc ms (F0 m pc ls st0) st (wq_Qc G Q' a) (wq_A G)) (hS : va_S (wq_A G) s.heap H locs) (h1 : cells + C ≤ R.cells) (h2 : slots + S ≤ R.slots) (hmc : mc ≤ C) (hms : ms ≤ S) (hL : wq_L ls M.2.2.1 L)
    (kk : ∀ r h', Q' r h' → wq_T G l d M Q (pc + 3) L (r.toList ++ st) h' (C - mc) (S - ms)) : W p l e R s m args below meth c H locs cells slots (MQ below (wq_Qc G Q) args s R.cells R.slots (wq_A G)) (F0 m pc ls st0) := by
  intro T hT XX
  obtain ⟨v, st₀, t, T', Lo, g0, X', gL, e1, e2, ⟨⟨r, h', hv, hq, hR'⟩, hz, hk⟩, go⟩ := hr T hT XX
  cases hv
  rw [g0] at hz hk
  obtain ⟨t2, a1, b1⟩ := kk v h' hq p e s m args below meth c R X T'.heap (locs ++ Lo) (cells + mc) (slots + ms) ls (by rw [e1]; exact hR')
    ⟨Nat.le_trans hS.1 (by rw [e1]; exact hz), fun q g1 g2 => by rw [e1, hk q (Nat.lt_of_lt_of_le g1 hS.1) g2]; exact hS.2.1 q g1 g2, fun q hq => by
      rcases List.mem_append.mp hq with g | g
      · exact hS.2.2 q g
      · exact gL q g⟩ (by omega) (by omega) hL T' rfl X'
  exact ⟨t2, go t2 a1, b1⟩
theorem wq_blind {args : List Value} : FrameBlind (va_Pc args (fun U => wq_En G U ∧ wq_R G h U.heap)) := by
  intro a U g mk q
  obtain ⟨q0, q1, q2⟩ := q
  exact ⟨q0, wq_En.same (u := U) rfl rfl q1, q2⟩
theorem wq_pre {s : State} {H : Heap} {locs : List Loc} {As : List Value} (hE : wq_En G s) (hR : wq_R G h H) (hS : va_S (wq_A G) s.heap H locs) : ∀ U : State, U.heap = H → s.WarmedH U.vm → va_Pc As (fun U => wq_En G U ∧ wq_R G h U.heap) As.toArray U := by
  intro U hU hW
  subst hU
  exact ⟨rfl, wq_En.warm hW hS hE, hR⟩
/-- calls: of a method of the receiver's own class; static; a constructor; of an inherited or overriding method -/
theorem wq_callV {d' mc ms idx b ci n : Nat} {fs As : List Value} {M' : wq_M} {q : vw_C} {Q' : Option Value → wq_H → Prop} (hT : GoodIn lw_all (wsV M.1.cls idx q.1 M'.1 (ws_ M'.1 M'.2.1 M'.2.2.1 M'.2.2.2))) (hc : vwCl[ci]? = some q) (hdd : M'.1.cls = q.1 ∧ M'.1.cls ≠ "java/lang/invoke/MethodHandle" ∧ M'.1.cls ≠ "java/lang/invoke/VarHandle" ∧ (parseMethodDescriptor M'.1.desc).map (fun d => d.parameters.length) = some n) (hml : M'.2.2.1 ≤ 31)
    (hd : decode M.2.1 pc = .ok (.invokevirtual idx, 3)) (hAs : As.length = n) (hst : (st.map fun v => v.category).sum ≤ 8) (hb : h b = some (.inr (ci, fs))) (hlt : d' < d) (hmc : mc ≤ C) (hms : ms ≤ S) (hcon : wq_C G l d' mc ms M' (.ref b :: As) h Q')
    (kk : ∀ r h', Q' r h' → wq_T G l d M Q (pc + 3) L (r.toList ++ st) h' (C - mc) (S - ms)) : wq_T G l d M Q pc L (As.reverse ++ .ref b :: st) h C S := by
  intro p e s m args below meth c R X H locs cells slots ls hR hS h1 h2 hL
  obtain ⟨x1, x2, x3, x4, x5, x6, x7, x8, hE, x9, x10⟩ := id X
  refine wq_after X (va_runV (As := As) (rest := st) ⟨x1, x2, x4, x5, x6⟩ hcon (cwV n x6 hT rfl rfl rfl hdd ⟨by show d' + 1 ≤ R.frames; omega, by show 8 + (M'.2.2.1 + 11) + 50 * d' ≤ R.locals; omega⟩) ⟨wq_blind, wq_recv hE hR hS hb hc, wq_pre hE hR hS⟩ rfl hAs hL.1 rfl (lv_room hst) hd ⟨by omega, by omega⟩) hS h1 h2 hmc hms hL kk
theorem wq_callU {d' mc ms idx b ci n : Nat} {fs As : List Value} {M' : wq_M} {q : vw_C} {owner : String} {x : MethodName} {Q' : Option Value → wq_H → Prop} (hT : ∀ (R : Room) (s : State) (args : Array Value) (rm : Room) (mc ms : Nat), (∀ w ∈ lw_all, w.before args s = true) → (∀ w ∈ wq_nw, va_Nw w s) → rm.cells = mc → rm.slots = ms → rm.frames + 1 ≤ R.frames ∧ 8 + (M'.2.2.1 + 11) + rm.locals ≤ R.locals → va_CU R s args M.1.cls q.1 owner idx x M'.1 M'.2.1 M'.2.2.1 M'.2.2.2 (ws_ M'.1 M'.2.1 M'.2.2.1 M'.2.2.2) rm mc ms n) (hc : vwCl[ci]? = some q) (hml : M'.2.2.1 ≤ 31)
    (hd : decode M.2.1 pc = .ok (.invokevirtual idx, 3)) (hAs : As.length = n) (hst : (st.map fun v => v.category).sum ≤ 8) (hb : h b = some (.inr (ci, fs))) (hlt : d' < d) (hmc : mc ≤ C) (hms : ms ≤ S) (hcon : wq_C G l d' mc ms M' (.ref b :: As) h Q')
    (kk : ∀ r h', Q' r h' → wq_T G l d M Q (pc + 3) L (r.toList ++ st) h' (C - mc) (S - ms)) : wq_T G l d M Q pc L (As.reverse ++ .ref b :: st) h C S := by
  intro p e s m args below meth c R X H locs cells slots ls hR hS h1 h2 hL
  obtain ⟨x1, x2, x3, x4, x5, x6, x7, x8, hE, x9, x10⟩ := id X
  refine wq_after X (va_runU (As := As) (rest := st) (C := q.1) ⟨x1, x2, x4, x5, x6⟩ hcon (hT R s args _ mc ms x6 hE.2.1 rfl rfl ⟨by show d' + 1 ≤ R.frames; omega, by show 8 + (M'.2.2.1 + 11) + 50 * d' ≤ R.locals; omega⟩) ⟨wq_blind, wq_recv hE hR hS hb hc, wq_pre hE hR hS⟩ rfl hAs hL.1 rfl (lv_room hst) hd ⟨by omega, by omega⟩) hS h1 h2 hmc hms hL kk
theorem wq_callS {d' mc ms idx n : Nat} {As : List Value} {M' : wq_M} {Q' : Option Value → wq_H → Prop} (hT : GoodIn lw_all (va_wsS M.1.cls idx M'.1 (ws_ M'.1 M'.2.1 M'.2.2.1 M'.2.2.2))) (hdd : M'.1.cls ≠ "java/lang/invoke/MethodHandle" ∧ M'.1.cls ≠ "java/lang/invoke/VarHandle" ∧ (parseMethodDescriptor M'.1.desc).map (fun d => d.parameters.length) = some n) (hml : M'.2.2.1 ≤ 31)
    (hd : decode M.2.1 pc = .ok (.invokestatic idx, 3)) (hAs : As.length = n) (hst : (st.map fun v => v.category).sum ≤ 8) (hlt : d' < d) (hmc : mc ≤ C) (hms : ms ≤ S) (hcon : wq_C G l d' mc ms M' As h Q')
    (kk : ∀ r h', Q' r h' → wq_T G l d M Q (pc + 3) L (r.toList ++ st) h' (C - mc) (S - ms)) : wq_T G l d M Q pc L (As.reverse ++ st) h C S := by
  intro p e s m args below meth c R X H locs cells slots ls hR hS h1 h2 hL
  obtain ⟨x1, x2, x3, x4, x5, x6, x7, x8, hE, x9, x10⟩ := id X
  refine wq_after X (va_runS (As := As) (rest := st) ⟨x1, x2, x4, x5, x6⟩ hcon (va_cwS n x6 hT rfl rfl rfl hdd ⟨by show d' + 1 ≤ R.frames; omega, by show 8 + (M'.2.2.1 + 11) + 50 * d' ≤ R.locals; omega⟩) ⟨wq_blind, wq_pre hE hR hS⟩ rfl hAs hL.1 rfl (lv_room hst) hd ⟨by omega, by omega⟩) hS h1 h2 hmc hms hL kk
theorem wq_callI {d' mc ms idx b n : Nat} {As : List Value} {M' : wq_M} {Q' : Option Value → wq_H → Prop} (hcode : Cond.code M'.1 M'.2.1 M'.2.2.1 none ∈ lw_all) (hini : Cond.initialized M'.1.cls ∈ lw_all) (hl : Cond.methodLink M.1.cls idx M'.1 ∈ lw_all) (hin : Cond.instanceMethod M'.1 ∈ lw_all) (hy : M'.1.name = "<init>") (hr : M'.2.2.2 = none) (hdd : M'.1.cls ≠ "java/lang/invoke/MethodHandle" ∧ M'.1.cls ≠ "java/lang/invoke/VarHandle" ∧ (parseMethodDescriptor M'.1.desc).map (fun d => d.parameters.length) = some n) (hml : M'.2.2.1 ≤ 31)
    (hd : decode M.2.1 pc = .ok (.invokespecial idx, 3)) (hAs : As.length = n) (hst : (st.map fun v => v.category).sum ≤ 8) (hlt : d' < d) (hmc : mc ≤ C) (hms : ms ≤ S) (hcon : wq_C G l d' mc ms M' (.ref b :: As) h Q')
    (kk : ∀ r h', Q' r h' → wq_T G l d M Q (pc + 3) L (r.toList ++ st) h' (C - mc) (S - ms)) : wq_T G l d M Q pc L (As.reverse ++ .ref b :: st) h C S := by
  intro p e s m args below meth c R X H locs cells slots ls hR hS h1 h2 hL
  obtain ⟨x1, x2, x3, x4, x5, x6, x7, x8, hE, x9, x10⟩ := id X
  have hcon : Met l M'.1 (ws_ M'.1 M'.2.1 M'.2.2.1 none) { frames := d', cells := mc, slots := ms, locals := 50 * d' } (va_Pc (.ref b :: As) (fun U => wq_En G U ∧ wq_R G h U.heap)) (wq_Qc G Q') mc ms (wq_A G) := by
    rw [← hr]; exact hcon
  refine wq_after X (va_runI (As := As) (rest := st) ⟨x1, x2, x4, x5, x6⟩ hcon (cwI n x6 (lw_meth hcode) rfl rfl rfl (x6 _ hini) (x6 _ hl) (x6 _ hin) hy hdd ⟨by show d' + 1 ≤ R.frames; omega, by show 8 + (M'.2.2.1 + 11) + 50 * d' ≤ R.locals; omega⟩) ⟨wq_blind, wq_pre hE hR hS⟩ rfl hAs hL.1 rfl (lv_room hst) hd ⟨by omega, by omega⟩) hS h1 h2 hmc hms hL kk
/-- Object's own constructor -/
theorem wq_objInit {idx a : Nat} (hl : Cond.methodLink M.1.cls idx Lib.objectInit ∈ lw_all) (hin : Cond.instanceMethod Lib.objectInit ∈ lw_all) (hco : Cond.code Lib.objectInit ⟨#[0xb1]⟩ 1 none ∈ lw_all) (hd : decode M.2.1 pc = .ok (.invokespecial idx, 3)) (hst : (st.map fun v => v.category).sum ≤ 8) (hd1 : 1 ≤ d) (kk : wq_T G l d M Q (pc + 3) L st h C S) : wq_T G l d M Q pc L (.ref a :: st) h C S := by
  intro p e s m args below meth c R X H locs cells slots ls hR hS h1 h2 hL
  obtain ⟨x1, x2, x3, x4, x5, x6, x7, x8, hE, x9, x10⟩ := id X
  exact W.objInit x1 x2 x5 (x6 _ hl) (x6 _ hin) (x6 _ hco) rfl (by rw [x4]; exact hL.1) rfl hd (by omega) (by have h8 : 2 * (F0 m pc ls (.ref a :: st)).monitorRoom + (st.map fun v => v.category).sum ≤ 8 := lv_room hst; omega) (kk p e s m args below meth c R X H locs cells slots ls hR hS h1 h2 hL)
end WQ2
