/-! THE LAYER wq_, third: what the code asks of the heap, as formulas; rows over them -/
set_option maxRecDepth 100000
abbrev wq_ra (f : Nat → Option Nat) : (Nat → Int32) ⊕ (Nat → Int64) ⊕ (Nat → UInt32) ⊕ (Nat → UInt64) ⊕ (Nat → Option Nat) := .inr (.inr (.inr (.inr f)))
def wq_gI (h : wq_H) (a : Nat) (cs : List (Nat × Nat)) (F : Int32 → Prop) : Prop := ∃ (ci k : Nat) (fs : List Value) (x : Int32), (ci, k) ∈ cs ∧ h a = some (.inr (ci, fs)) ∧ fs[k]? = some (.int x) ∧ F x
def wq_gJ (h : wq_H) (a : Nat) (cs : List (Nat × Nat)) (F : Int64 → Prop) : Prop := ∃ (ci k : Nat) (fs : List Value) (x : Int64), (ci, k) ∈ cs ∧ h a = some (.inr (ci, fs)) ∧ fs[k]? = some (.long x) ∧ F x
def wq_gR (h : wq_H) (a : Nat) (cs : List (Nat × Nat)) (F : Nat → Prop) : Prop := ∃ (ci k : Nat) (fs : List Value) (x : Nat), (ci, k) ∈ cs ∧ h a = some (.inr (ci, fs)) ∧ fs[k]? = some (.ref x) ∧ F x
def wq_gQ (h : wq_H) (a : Nat) (cs : List (Nat × Nat)) (F : Option Nat → Prop) : Prop := ∃ (ci k : Nat) (fs : List Value) (x : Option Nat), (ci, k) ∈ cs ∧ h a = some (.inr (ci, fs)) ∧ fs[k]? = some (va_rf x) ∧ F x
def wq_pf (G : wq_G) (h : wq_H) (a : Nat) (cs : List (Nat × Nat)) (v : Value) (F : wq_H → Prop) : Prop := ∃ (ci k : Nat) (fs : List Value), (ci, k) ∈ cs ∧ h a = some (.inr (ci, fs)) ∧ G.1 ≤ a ∧ k < fs.length ∧ F (wq_set h a (.inr (ci, fs.set k v)))
def wq_ai (G : wq_G) (h : wq_H) (a : Nat) (i : Int32) (F : Int32 → Prop) : Prop := ∃ (n : Nat) (f : Nat → Int32), h a = some (.inl (G.2.2.1 0, n, .inl f)) ∧ vp_in i n ∧ F (f i.toNatClampNeg)
def wq_ab (G : wq_G) (h : wq_H) (a : Nat) (i : Int32) (F : Int32 → Prop) : Prop := ∃ (n : Nat) (f : Nat → Int32), h a = some (.inl (G.2.2.1 2, n, .inl f)) ∧ vp_in i n ∧ F (f i.toNatClampNeg)
def wq_aj (G : wq_G) (h : wq_H) (a : Nat) (i : Int32) (F : Int64 → Prop) : Prop := ∃ (n : Nat) (f : Nat → Int64), h a = some (.inl (G.2.2.1 1, n, .inr (.inl f))) ∧ vp_in i n ∧ F (f i.toNatClampNeg)
def wq_ar (G : wq_G) (h : wq_H) (a : Nat) (i : Int32) (F : Option Nat → Prop) : Prop := ∃ (n : Nat) (f : Nat → Option Nat), h a = some (.inl (G.2.2.1 3, n, wq_ra f)) ∧ vp_in i n ∧ F (f i.toNatClampNeg)
def wq_si (G : wq_G) (h : wq_H) (a : Nat) (i x : Int32) (F : wq_H → Prop) : Prop := ∃ (n : Nat) (f : Nat → Int32), h a = some (.inl (G.2.2.1 0, n, .inl f)) ∧ G.1 ≤ a ∧ vp_in i n ∧ F (wq_set h a (.inl (G.2.2.1 0, n, .inl (upd f i.toNatClampNeg x))))
def wq_sb (G : wq_G) (h : wq_H) (a : Nat) (i x : Int32) (F : wq_H → Prop) : Prop := ∃ (n : Nat) (f : Nat → Int32), h a = some (.inl (G.2.2.1 2, n, .inl f)) ∧ G.1 ≤ a ∧ vp_in i n ∧ F (wq_set h a (.inl (G.2.2.1 2, n, .inl (upd f i.toNatClampNeg (vp_nar .byte x)))))
def wq_sj (G : wq_G) (h : wq_H) (a : Nat) (i : Int32) (x : Int64) (F : wq_H → Prop) : Prop := ∃ (n : Nat) (f : Nat → Int64), h a = some (.inl (G.2.2.1 1, n, .inr (.inl f))) ∧ G.1 ≤ a ∧ vp_in i n ∧ F (wq_set h a (.inl (G.2.2.1 1, n, .inr (.inl (vp_updL f i.toNatClampNeg x)))))
def wq_sr (G : wq_G) (h : wq_H) (a : Nat) (i : Int32) (r : Option Nat) (F : wq_H → Prop) : Prop := (∀ v, r = some v → ∃ (ci : Nat) (fs : List Value), h v = some (.inr (ci, fs))) ∧ ∃ (n : Nat) (f : Nat → Option Nat), h a = some (.inl (G.2.2.1 3, n, wq_ra f)) ∧ G.1 ≤ a ∧ vp_in i n ∧ F (wq_set h a (.inl (G.2.2.1 3, n, wq_ra (va_up f i.toNatClampNeg r))))
def wq_ag (G : wq_G) (h : wq_H) (a : Nat) (F : Int32 → Prop) : Prop := ∃ (cA : ClassId) (ty : FieldType) (x : vp_A), (cA, ty) ∈ wq_tys G ∧ h a = some (.inl (cA, x)) ∧ F (Int32.ofNat x.1)
def wq_no (G : wq_G) (h : wq_H) (ci : Nat) (fs : List Value) (N C S : Nat) (F : Nat → wq_H → Prop) : Prop := 1 ≤ C ∧ N ≤ S ∧ ∀ q, h q = none → G.1 ≤ q → F q (wq_set h q (.inr (ci, fs)))
def wq_na (G : wq_G) (h : wq_H) (e : va_E) (n : Int32) (N C S : Nat) (F : Nat → wq_H → Prop) : Prop := ¬ n < 0 ∧ n.toNatClampNeg = N ∧ N ≤ 100000 ∧ 1 ≤ C ∧ N ≤ S ∧ ∀ q, h q = none → G.1 ≤ q → F q (wq_set h q e)
def wq_ct (h : wq_H) (r : Option Nat) (cs : List Nat) (F : Nat → Prop) : Prop := ∃ (a ci : Nat) (fs : List Value), r = some a ∧ ci ∈ cs ∧ h a = some (.inr (ci, fs)) ∧ F a
def wq_qi (K : Int32 → wq_H → Prop) : Option Value → wq_H → Prop := fun r h => ∃ x : Int32, r = some (.int x) ∧ K x h
def wq_qj (K : Int64 → wq_H → Prop) : Option Value → wq_H → Prop := fun r h => ∃ x : Int64, r = some (.long x) ∧ K x h
def wq_qv (K : wq_H → Prop) : Option Value → wq_H → Prop := fun r h => r = none ∧ K h
def wq_qq (K : Option Nat → wq_H → Prop) : Option Value → wq_H → Prop := fun r h => ∃ q : Option Nat, r = some (va_rf q) ∧ K q h
/-- a call with the room that is left -/
def wq_cc (G : wq_G) (l : Launch) (d C S : Nat) (M : wq_M) (args : List Value) (h : wq_H) (Q : Nat → Nat → Option Value → wq_H → Prop) : Prop := ∃ d' mc ms, d' < d ∧ mc ≤ C ∧ ms ≤ S ∧ wq_C G l d' mc ms M args h (Q (C - mc) (S - ms))
def wq_ci (G : wq_G) (l : Launch) (d C S : Nat) (M : wq_M) (args : List Value) (h : wq_H) (F : Int32 → wq_H → Nat → Nat → Prop) : Prop := wq_cc G l d C S M args h (fun C' S' => wq_qi (fun x h' => F x h' C' S'))
def wq_cj (G : wq_G) (l : Launch) (d C S : Nat) (M : wq_M) (args : List Value) (h : wq_H) (F : Int64 → wq_H → Nat → Nat → Prop) : Prop := wq_cc G l d C S M args h (fun C' S' => wq_qj (fun x h' => F x h' C' S'))
def wq_cw (G : wq_G) (l : Launch) (d C S : Nat) (M : wq_M) (args : List Value) (h : wq_H) (F : wq_H → Nat → Nat → Prop) : Prop := wq_cc G l d C S M args h (fun C' S' => wq_qv (fun h' => F h' C' S'))
def wq_cq (G : wq_G) (l : Launch) (d C S : Nat) (M : wq_M) (args : List Value) (h : wq_H) (F : Option Nat → wq_H → Nat → Nat → Prop) : Prop := wq_cc G l d C S M args h (fun C' S' => wq_qq (fun x h' => F x h' C' S'))
section WQ3a
variable {G : wq_G} {l : Launch} {d : Nat} {M : wq_M} {h : wq_H} {C S : Nat} {args : List Value}
theorem wq_ci.use {d' mc ms : Nat} {K : Int32 → wq_H → Prop} {F : Int32 → wq_H → Nat → Nat → Prop} (hd : d' < d) (hC : mc ≤ C) (hS : ms ≤ S) (c : wq_C G l d' mc ms M args h (wq_qi K)) (k : ∀ x h', K x h' → F x h' (C - mc) (S - ms)) : wq_ci G l d C S M args h F :=
  ⟨d', mc, ms, hd, hC, hS, c.mono (fun _ h' ⟨x, h1, h2⟩ => ⟨x, h1, k x h' h2⟩)⟩
theorem wq_cj.use {d' mc ms : Nat} {K : Int64 → wq_H → Prop} {F : Int64 → wq_H → Nat → Nat → Prop} (hd : d' < d) (hC : mc ≤ C) (hS : ms ≤ S) (c : wq_C G l d' mc ms M args h (wq_qj K)) (k : ∀ x h', K x h' → F x h' (C - mc) (S - ms)) : wq_cj G l d C S M args h F :=
  ⟨d', mc, ms, hd, hC, hS, c.mono (fun _ h' ⟨x, h1, h2⟩ => ⟨x, h1, k x h' h2⟩)⟩
theorem wq_cw.use {d' mc ms : Nat} {K : wq_H → Prop} {F : wq_H → Nat → Nat → Prop} (hd : d' < d) (hC : mc ≤ C) (hS : ms ≤ S) (c : wq_C G l d' mc ms M args h (wq_qv K)) (k : ∀ h', K h' → F h' (C - mc) (S - ms)) : wq_cw G l d C S M args h F :=
  ⟨d', mc, ms, hd, hC, hS, c.mono (fun _ h' ⟨h1, h2⟩ => ⟨h1, k h' h2⟩)⟩
theorem wq_cq.use {d' mc ms : Nat} {K : Option Nat → wq_H → Prop} {F : Option Nat → wq_H → Nat → Nat → Prop} (hd : d' < d) (hC : mc ≤ C) (hS : ms ≤ S) (c : wq_C G l d' mc ms M args h (wq_qq K)) (k : ∀ x h', K x h' → F x h' (C - mc) (S - ms)) : wq_cq G l d C S M args h F :=
  ⟨d', mc, ms, hd, hC, hS, c.mono (fun _ h' ⟨x, h1, h2⟩ => ⟨x, h1, k x h' h2⟩)⟩
end WQ3a
theorem wq_nfr {ty : FieldType} (ht : ty.isReference = true) (r : Option Nat) : narrow ty (va_rf r) = va_rf r ∧ fits ty (va_rf r) = true := by
  cases r <;> cases ty <;> first | exact ⟨rfl, rfl⟩ | cases ht
/-- every class of ours may be stored as an Object -/
theorem wq_obj : ∀ (ci : Nat) (q : vw_C), vwCl[ci]? = some q → Cond.castable q.1 "java/lang/Object" ∈ wq_nw := by
  have key : ∀ q ∈ vwCl, Cond.castable q.1 "java/lang/Object" ∈ lw_tbl := by
    have h1 : ∀ s ∈ vwCl.map (fun q => q.1), Cond.castable s "java/lang/Object" ∈ lw_tbl := by
      have e : vwCl.map (fun q => q.1) = [RX1, RX2, RX3, RX4, RX5, RX6, RX7, RX8, RX10, RX11, RX12, RX13, RX14, RX15, RX16, RX17, RJ2, RJ4, RJ5, RJ14, RJ18] := rfl
      rw [e]
      intro s hs
      simp only [List.mem_cons, List.not_mem_nil, or_false] at hs
      rcases hs with rfl | rfl | rfl | rfl | rfl | rfl | rfl | rfl | rfl | rfl | rfl | rfl | rfl | rfl | rfl | rfl | rfl | rfl | rfl | rfl | rfl
      · exact q2350
      · exact q2351
      · exact q2353
      · exact q2354
      · exact q2355
      · exact q2356
      · exact q2357
      · exact q2358
      · exact q2362
      · exact q2363
      · exact q2364
      · exact q2365
      · exact q2366
      · exact q2367
      · exact q2369
      · exact q2370
      · exact q2352
      · exact q2359
      · exact q2360
      · exact q2368
      · exact q2371
    intro q hq
    exact h1 _ (List.mem_map.mpr ⟨q, hq, rfl⟩)
  intro ci q hq
  exact List.mem_filter.mpr ⟨key q (List.mem_of_getElem? hq), rfl⟩
theorem wq_any {G : wq_G} {s : State} {h : wq_H} {H : Heap} {locs : List Loc} (hE : wq_En G s) (hR : wq_R G h H) (hS : va_S (wq_A G) s.heap H locs) {a ci : Nat} {fs : List Value} (ha : h a = some (.inr (ci, fs))) : va_Any "java/lang/Object" s H a := by
  have hc : ∃ q, vwCl[ci]? = some q := by
    rcases hR.2 a _ ha with h1 | h1
    · obtain ⟨r, h2, -⟩ := h1.2
      exact ⟨r, h2⟩
    · obtain ⟨-, r, h2, -⟩ := hE.2.2.2.1 a _ h1.2
      exact ⟨r, h2⟩
  obtain ⟨q, hc⟩ := hc
  obtain ⟨cell, h1, h2, h3⟩ := wq_recv hE hR hS ha hc
  obtain ⟨kC, hkC, -⟩ := Vm.findClass_spec h3
  obtain ⟨c0, t0, f1, f2, f3⟩ := Cond.castable_spec (va_Nw.use (A := #[]) rfl (hE.2.1 _ (wq_obj ci q hc)))
  cases f1.symm.trans h3
  refine ⟨cell, h1, h2, ⟨kC, hkC⟩, fun comp h => ?_⟩
  cases f2.symm.trans h
  exact f3
def wq_arK (G : wq_G) (h : wq_H) (a : Nat) (i : Int32) (F : Option Nat → Prop) : Prop := ∃ (n : Nat) (f : Nat → Option Nat), h a = some (.inl (G.2.2.1 4, n, wq_ra f)) ∧ a < G.1 ∧ vp_in i n ∧ F (f i.toNatClampNeg)
def wq_ctA (G : wq_G) (h : wq_H) (r : Option Nat) (t : Nat) (F : Nat → Prop) : Prop := ∃ (a : Nat) (x : vp_A), r = some a ∧ G.1 ≤ a ∧ h a = some (.inl (G.2.2.1 t, x)) ∧ F a
/-- a private method of a class above the receiver's -/
theorem wq_selP {Cn : String} {y : MethodName} {s : State} {args : Array Value} {n : Nat} (hy : y.cls ≠ "java/lang/invoke/MethodHandle" ∧ y.cls ≠ "java/lang/invoke/VarHandle")
    (hins : (Cond.instantiable Cn n).before args s = true) (hpriv : (Cond.privateMethod y).before args s = true) (hinst : (Cond.instanceMethod y).before args s = true) (hsame : (Cond.sameMethod y.cls y.cls y.name y.desc).before args s = true) : (Cond.selects Cn y y).before args s = true := by
  obtain ⟨c, k, hc, hk, -, hniab, -, -⟩ := Cond.instantiable_spec hins
  have hni : k.isInterface = false := (Bool.or_eq_false_iff.mp hniab).1
  obtain ⟨mk, methM, hnamed, hmethM, -, -⟩ := Cond.instanceMethod_spec hinst
  have hfound : s.methodFound? y.cls y.name y.desc = some mk := State.methodFound?_of_named hnamed hy
  have hsel : selectMethod {} s.vm c mk = .method mk := selectMethod_private hmethM (Cond.privateMethod_at hpriv mk methM hnamed hmethM)
  obtain ⟨kM, hkM, hkMi⟩ : ∃ kM, s.vm.classes[mk.cls]? = some kM ∧ kM.isInterface = false := by
    obtain ⟨c', ck, r, q1, q2, q3, -, -⟩ := Cond.sameMethod_found hsame
    have hcls : mk.cls = c' := Option.some.inj ((findClass_of_methodNamed hnamed).symm.trans q1)
    exact ⟨ck, by rw [hcls]; exact q2, q3⟩
  simp only [Cond.before, Cond.holds, Cond.value, hc, hfound, hnamed, hsel, hkM]
  simp; exact hkMi
theorem wq_CUp {R : Room} {s : State} {args : Array Value} {rm : Room} {mc ms idx maxL n N : Nat} {own Cn : String} {y : MethodName} {bytes : ByteArray} {ret : Option FieldType} (x6 : ∀ w ∈ lw_all, w.before args s = true) (x7 : ∀ w ∈ wq_nw, va_Nw w s) (hcode : Cond.code y bytes maxL ret ∈ lw_all) (hini : Cond.initialized y.cls ∈ lw_all) (hl : Cond.methodLink own idx y ∈ lw_all) (hsame : Cond.sameMethod y.cls y.cls y.name y.desc ∈ lw_all) (hins : Cond.instantiable Cn N ∈ lw_all) (hpriv : Cond.privateMethod y ∈ wq_nw) (hinst : Cond.instanceMethod y ∈ lw_all)
    (hd : y.cls ≠ "java/lang/invoke/MethodHandle" ∧ y.cls ≠ "java/lang/invoke/VarHandle" ∧ (parseMethodDescriptor y.desc).map (fun d => d.parameters.length) = some n) (e1 : rm.cells = mc) (e2 : rm.slots = ms) (hR : rm.frames + 1 ≤ R.frames ∧ 8 + (maxL + 11) + rm.locals ≤ R.locals) : va_CU R s args own Cn y.cls idx y y bytes maxL ret (ws_ y bytes maxL ret) rm mc ms n := by
  refine ⟨⟨e1, e2, hR.1, hR.2, pay_in x6 (lw_meth hcode), List.mem_cons_self⟩, x6 _ hcode, x6 _ hini, ⟨hd.1, hd.2.1⟩, fun sig h => ?_, x6 _ hl, x6 _ hsame, va_Decl.of (x6 _ hinst) (x6 _ hcode), wq_selP ⟨hd.1, hd.2.1⟩ (x6 _ hins) (va_Nw.use rfl (x7 _ hpriv)) (x6 _ hinst) (x6 _ hsame), x6 _ hinst⟩
  have h2 := hd.2.2
  rw [h] at h2
  exact (Option.some.inj h2).symm
theorem wq_cat1 (r : Option Nat) : (va_rf r).category = 1 := by cases r <;> rfl
def wq_cpI (G : wq_G) (h : wq_H) (a0 : Nat) (sp : Int32) (a1 : Nat) (dp n : Int32) (F : wq_H → Prop) : Prop := ∃ (n0 : Nat) (f : Nat → Int32) (n1 : Nat) (g : Nat → Int32), h a0 = some (.inl (G.2.2.1 0, n0, .inl f)) ∧ h a1 = some (.inl (G.2.2.1 0, n1, .inl g)) ∧ G.1 ≤ a0 ∧ G.1 ≤ a1 ∧ ¬ sp < 0 ∧ ¬ dp < 0 ∧ ¬ n < 0 ∧ sp.toNatClampNeg + n.toNatClampNeg ≤ n0 ∧ dp.toNatClampNeg + n.toNatClampNeg ≤ n1 ∧ F (wq_set h a1 (.inl (G.2.2.1 0, n1, .inl (va_cpy f g sp.toNatClampNeg dp.toNatClampNeg n.toNatClampNeg))))
def wq_cpB (G : wq_G) (h : wq_H) (a0 : Nat) (sp : Int32) (a1 : Nat) (dp n : Int32) (F : wq_H → Prop) : Prop := ∃ (n0 : Nat) (f : Nat → Int32) (n1 : Nat) (g : Nat → Int32), h a0 = some (.inl (G.2.2.1 2, n0, .inl f)) ∧ h a1 = some (.inl (G.2.2.1 2, n1, .inl g)) ∧ G.1 ≤ a0 ∧ G.1 ≤ a1 ∧ ¬ sp < 0 ∧ ¬ dp < 0 ∧ ¬ n < 0 ∧ sp.toNatClampNeg + n.toNatClampNeg ≤ n0 ∧ dp.toNatClampNeg + n.toNatClampNeg ≤ n1 ∧ (∀ i, i < n.toNatClampNeg → fits .byte (.int (f (sp.toNatClampNeg + i))) = true) ∧ F (wq_set h a1 (.inl (G.2.2.1 2, n1, .inl (va_cpy f g sp.toNatClampNeg dp.toNatClampNeg n.toNatClampNeg))))
def wq_cpR (G : wq_G) (h : wq_H) (a0 : Nat) (sp : Int32) (a1 : Nat) (dp n : Int32) (F : wq_H → Prop) : Prop := ∃ (n0 : Nat) (f : Nat → Option Nat) (n1 : Nat) (g : Nat → Option Nat), h a0 = some (.inl (G.2.2.1 3, n0, wq_ra f)) ∧ h a1 = some (.inl (G.2.2.1 3, n1, wq_ra g)) ∧ G.1 ≤ a0 ∧ G.1 ≤ a1 ∧ ¬ sp < 0 ∧ ¬ dp < 0 ∧ ¬ n < 0 ∧ sp.toNatClampNeg + n.toNatClampNeg ≤ n0 ∧ dp.toNatClampNeg + n.toNatClampNeg ≤ n1 ∧ (∀ i, i < n.toNatClampNeg → ∀ y, f (sp.toNatClampNeg + i) = some y → ∃ (ci : Nat) (fs : List Value), h y = some (.inr (ci, fs))) ∧ F (wq_set h a1 (.inl (G.2.2.1 3, n1, wq_ra (va_cpy f g sp.toNatClampNeg dp.toNatClampNeg n.toNatClampNeg))))
section WQ3
variable {G : wq_G} {l : Launch} {d : Nat} {M : wq_M} {Q : Option Value → wq_H → Prop} {pc : Nat} {L L' : List (Option Value)} {st : List Value} {h : wq_H} {C S : Nat}
theorem wx_cpI {idx a0 a1 : Nat} {sp dp n : Int32} {F : wq_H → Prop} (hl : Cond.methodLink M.1.cls idx arraycopyName ∈ lw_all) (hd : decode M.2.1 pc = .ok (.invokestatic idx, 3)) (hst : (st.map fun v => v.category).sum ≤ 8) (hd1 : 1 ≤ d) (V : wq_cpI G h a0 sp a1 dp n F) (kk : ∀ h', F h' → wq_T G l d M Q (pc + 3) L st h' C S) : wq_T G l d M Q pc L (.int n :: .int dp :: .ref a1 :: .int sp :: .ref a0 :: st) h C S := by
  obtain ⟨n0, f, n1, g, e0, e1, z0, z1, b1, b2, b3, b4, b5, V⟩ := V
  intro p e s m args below meth c R X H locs cells slots ls hR hS g1 g2 hL
  obtain ⟨x1, x2, x3, x4, x5, x6, x7, x8, hE, x9, x10⟩ := id X
  obtain ⟨q0, h0⟩ := wq_ws_at hR e0 z0
  obtain ⟨q1, h1⟩ := wq_ws_at hR e1 z1
  have hfw : nativeFrameWords "java/lang/System" "arraycopy" 5 ≤ 20 := by decide +kernel
  exact va_copyi (D := G.2.1) (A := wq_A G) (H0 := s.heap) (ty := .int) x1 x2 (x4.trans hL.1.symm) x5 (x6 _ hl) (x6 _ q450) (x6 _ q449) (x6 _ q131) hE.1 (wq_ws_P hR) (wq_ws_D G h H.size) hS q0 q1 0 0 h0 h1 rfl rfl rfl b1 b2 b3 b4 b5 (fun _ _ => rfl) (by omega) (by omega) hd (fun H1 locs1 hP hD hS1 => kk _ V p e s m args below meth c R X H1 locs1 cells slots ls (hR.put z1 h1 hP (Nat.le_trans hE.2.2.1 hS1.1)) hS1 g1 g2 hL)
theorem wx_cpB {idx a0 a1 : Nat} {sp dp n : Int32} {F : wq_H → Prop} (hl : Cond.methodLink M.1.cls idx arraycopyName ∈ lw_all) (hd : decode M.2.1 pc = .ok (.invokestatic idx, 3)) (hst : (st.map fun v => v.category).sum ≤ 8) (hd1 : 1 ≤ d) (V : wq_cpB G h a0 sp a1 dp n F) (kk : ∀ h', F h' → wq_T G l d M Q (pc + 3) L st h' C S) : wq_T G l d M Q pc L (.int n :: .int dp :: .ref a1 :: .int sp :: .ref a0 :: st) h C S := by
  obtain ⟨n0, f, n1, g, e0, e1, z0, z1, b1, b2, b3, b4, b5, b6, V⟩ := V
  intro p e s m args below meth c R X H locs cells slots ls hR hS g1 g2 hL
  obtain ⟨x1, x2, x3, x4, x5, x6, x7, x8, hE, x9, x10⟩ := id X
  obtain ⟨q0, h0⟩ := wq_ws_at hR e0 z0
  obtain ⟨q1, h1⟩ := wq_ws_at hR e1 z1
  have hfw : nativeFrameWords "java/lang/System" "arraycopy" 5 ≤ 20 := by decide +kernel
  exact va_copyi (D := G.2.1) (A := wq_A G) (H0 := s.heap) (ty := .byte) x1 x2 (x4.trans hL.1.symm) x5 (x6 _ hl) (x6 _ q450) (x6 _ q449) (x6 _ q131) hE.1 (wq_ws_P hR) (wq_ws_D G h H.size) hS q0 q1 2 2 h0 h1 rfl rfl rfl b1 b2 b3 b4 b5 b6 (by omega) (by omega) hd (fun H1 locs1 hP hD hS1 => kk _ V p e s m args below meth c R X H1 locs1 cells slots ls (hR.put z1 h1 hP (Nat.le_trans hE.2.2.1 hS1.1)) hS1 g1 g2 hL)
theorem wx_cpR {idx a0 a1 : Nat} {sp dp n : Int32} {F : wq_H → Prop} (hl : Cond.methodLink M.1.cls idx arraycopyName ∈ lw_all) (hd : decode M.2.1 pc = .ok (.invokestatic idx, 3)) (hst : (st.map fun v => v.category).sum ≤ 8) (hd1 : 1 ≤ d) (V : wq_cpR G h a0 sp a1 dp n F) (kk : ∀ h', F h' → wq_T G l d M Q (pc + 3) L st h' C S) : wq_T G l d M Q pc L (.int n :: .int dp :: .ref a1 :: .int sp :: .ref a0 :: st) h C S := by
  obtain ⟨n0, f, n1, g, e0, e1, z0, z1, b1, b2, b3, b4, b5, b6, V⟩ := V
  intro p e s m args below meth c R X H locs cells slots ls hR hS g1 g2 hL
  obtain ⟨x1, x2, x3, x4, x5, x6, x7, x8, hE, x9, x10⟩ := id X
  obtain ⟨q0, h0⟩ := wq_ws_at hR e0 z0
  obtain ⟨q1, h1⟩ := wq_ws_at hR e1 z1
  have hfw : nativeFrameWords "java/lang/System" "arraycopy" 5 ≤ 20 := by decide +kernel
  exact va_copyM (D := G.2.1) (A := wq_A G) (H0 := s.heap) x1 x2 (x4.trans hL.1.symm) x5 (x6 _ hl) (x6 _ q450) (x6 _ q449) (x6 _ q131) hE.1 (wq_ws_P hR) (wq_ws_D G h H.size) hS q0 q1 3 3 h0 h1 rfl rfl b1 b2 b3 b4 b5 (fun i hi y hy => by obtain ⟨ci, fs, hy⟩ := b6 i hi y hy; exact wq_any hE hR hS hy) (by omega) (by omega) hd (fun H1 locs1 hP hD hS1 => kk _ V p e s m args below meth c R X H1 locs1 cells slots ls (hR.put z1 h1 hP (Nat.le_trans hE.2.2.1 hS1.1)) hS1 g1 g2 hL)
theorem wq_getsQ {idx : Nat} {Cn n ds : String} (hm : (Cn, n, ds) ∈ wq_stq) (hl : Cond.fieldLink M.1.cls idx Cn n ds ∈ lw_all) (hd : decode M.2.1 pc = .ok (.getstatic idx, 3)) (kk : ∀ r, wq_T G l d M Q (pc + 3) L (va_rf r :: st) h C S) : wq_T G l d M Q pc L st h C S := by
  intro p e s m args below meth c R X H locs cells slots ls hR hS h1 h2 hL
  rcases X.2.2.2.2.2.2.2.2.1.2.2.2.2.2.2.2.1 _ hm with hz | ⟨t, hz⟩
  · exact va_gets X.1 X.2.1 hz hS X.2.2.2.2.1 (X.2.2.2.2.2.1 _ hl) (fun _ z => z) hd (kk none p e s m args below meth c R X H locs cells slots ls hR hS h1 h2 hL)
  · exact va_gets X.1 X.2.1 hz hS X.2.2.2.2.1 (X.2.2.2.2.2.1 _ hl) (fun _ z => z) hd (kk (some t) p e s m args below meth c R X H locs cells slots ls hR hS h1 h2 hL)
/-- the small Integers -/
theorem wx_arK {a : Nat} {i : Int32} {F : Option Nat → Prop} (hd : decode M.2.1 pc = .ok (.aaload, 1)) (V : wq_arK G h a i F) (kk : ∀ x, F x → wq_T G l d M Q (pc + 1) L (va_rf x :: st) h C S) : wq_T G l d M Q pc L (.int i :: .ref a :: st) h C S := by
  obtain ⟨n, f, e1, hz, hi, V⟩ := V
  intro p e s m args below meth c R X H locs cells slots ls hR hS h1 h2 hL
  have hE := X.2.2.2.2.2.2.2.2.1
  have e2 : G.2.2.2.1 a = some (.inl (G.2.2.1 4, n, wq_ra f)) := by
    rcases hR.2 a _ e1 with q | q
    · omega
    · exact q.2
  obtain ⟨-, cell, g1, g2, g3, g4⟩ := hE.2.2.2.1 a _ e2
  have g1 : H[a]? = some cell := by rw [hS.2.1 a (by have := hE.2.2.1; omega) (by unfold wq_A; omega)]; exact g1
  have hlt : i.toNatClampNeg < n := Nat.not_le.mp fun q => hi (Or.inr q)
  exact W.aald (v := va_rf (f i.toNatClampNeg)) X.1 X.2.1 g1 (g4 (.object "java/lang/Intege\x72") (by simp)) rfl g2 (by rw [g3]; show ¬ (i < 0 ∨ (arrV _ _ _).slots.size ≤ _); rw [arrV_size]; exact hi) (by rw [g3]; show (arrV _ _ _).slots[_]? = _; rw [arrV_read _ _ hlt]) rfl rfl hd (kk _ V p e s m args below meth c R X H locs cells slots ls hR hS h1 h2 hL)
/-- a cast to the byte arrays; getClass of an Object array, and that class's constant -/
theorem wx_ctB {idx : Nat} {r : Option Nat} {F : Nat → Prop} (hl : Cond.classLink M.1.cls idx "[B" ∈ lw_all) (hd : decode M.2.1 pc = .ok (.checkcast idx, 3)) (V : wq_ctA G h r 2 F) (kk : ∀ a, F a → wq_T G l d M Q (pc + 3) L (.ref a :: st) h C S) : wq_T G l d M Q pc L (va_rf r :: st) h C S := by
  obtain ⟨a, x, rfl, hz, e1, V⟩ := V
  intro p e s m args below meth c R X H locs cells slots ls hR hS h1 h2 hL
  obtain ⟨x1, x2, x3, x4, x5, x6, x7, x8, hE, x9⟩ := id X
  obtain ⟨q0, h0⟩ := wq_ws_at hR e1 hz
  exact va_castA (D := G.2.1) x1 x2 x5 (x6 _ hl) (wq_ws_P hR) q0 h0 (hE.1.2 2 _ rfl).2 hd (kk a V p e s m args below meth c R X H locs cells slots ls hR hS h1 h2 hL)
theorem wx_getC {idx a : Nat} {x : vp_A} (hl : Cond.methodLink M.1.cls idx ⟨"java/lang/Object", "getClass", "()Ljava/lang/Class;"⟩ ∈ lw_all) (hd : decode M.2.1 pc = .ok (.invokevirtual idx, 3)) (hst : (st.map fun v => v.category).sum ≤ 8) (hd1 : 1 ≤ d) (hz : G.1 ≤ a) (hh : h a = some (.inl (G.2.2.1 3, x))) (kk : wq_T G l d M Q (pc + 3) L (.ref (G.2.2.2.2 2) :: st) h C S) : wq_T G l d M Q pc L (.ref a :: st) h C S := by
  intro p e s m args below meth c R X H locs cells slots ls hR hS h1 h2 hL
  obtain ⟨x1, x2, x3, x4, x5, x6, x7, x8, hE, x9, x10⟩ := id X
  have hv : va_at G.2.1 vwCl (a, .inl (G.2.2.1 3, x)) H := by
    rcases hR.2 a _ hh with q | q
    · exact q.2
    · omega
  refine va_getC x1 x2 (x4.trans hL.1.symm) (C := "[Ljava/lang/Object;") x5 (x6 _ hl) (va_Nw.use rfl (hE.2.1 _ (List.mem_filter.mpr ⟨q2375, rfl⟩))) (x6 _ q2374) (x6 _ q760) (x6 _ q784) hE.2.2.2.2.2.2.2.2 ⟨_, hv, ?_, ?_⟩ (by omega) (by omega) hd (kk p e s m args below meth c R X H locs cells slots ls hR hS h1 h2 hL)
  · obtain ⟨n, x⟩ := x
    rcases x with f | f | f | f | f <;> rfl
  · have e3 : s.vm.findClass "[Ljava/lang/Object;" = some (G.2.2.1 3) := va_nmO (hE.1.2 3 _ rfl).2 (by decide +kernel)
    rw [e3]
    obtain ⟨n, x⟩ := x
    rcases x with f | f | f | f | f <;> rfl
theorem wx_ldcM {idx : Nat} (hl : Cond.classLink M.1.cls idx "[Ljava/lang/Object;" ∈ lw_all) (hd : decode M.2.1 pc = .ok (.ldc idx, 2)) (kk : wq_T G l d M Q (pc + 2) L (.ref (G.2.2.2.2 2) :: st) h C S) : wq_T G l d M Q pc L st h C S :=
  fun p e s m args below meth c R X H locs cells slots ls hR hS h1 h2 hL => va_ldcM X.1 X.2.1 X.2.2.2.2.1 (X.2.2.2.2.2.1 _ hl) X.2.2.2.2.2.2.2.2.1.2.2.2.2.2.2.2.2 hd (kk p e s m args below meth c R X H locs cells slots ls hR hS h1 h2 hL)
theorem wq_aloadQ {i : Nat} {r : Option Nat} (hd : decode M.2.1 pc = .ok (.aload i, 2)) (hv : L[i]? = some (some (va_rf r))) (kk : wq_T G l d M Q (pc + 2) L (va_rf r :: st) h C S) : wq_T G l d M Q pc L st h C S := by
  cases r with
  | none => exact fun p e s m args below meth c R X H locs cells slots ls hR hS h1 h2 hL => lv_aloadN X.1 X.2.1 hd (hL.at hv) (kk p e s m args below meth c R X H locs cells slots ls hR hS h1 h2 hL)
  | some a => exact wq_aload hd hv kk
theorem wq_astoreQ {i : Nat} {r : Option Nat} (hd : decode M.2.1 pc = .ok (.astore i, 2)) (hn : i < M.2.2.1) (hl : wq_s1 L i (va_rf r) = L') (kk : wq_T G l d M Q (pc + 2) L' st h C S) : wq_T G l d M Q pc L (va_rf r :: st) h C S := by
  cases r with
  | none =>
    subst hl
    exact fun p e s m args below meth c R X H locs cells slots ls hR hS h1 h2 hL => lv_astoreN X.1 X.2.1 hd hL.has hn rfl (fun ls' hl' => kk p e s m args below meth c R X H locs cells slots ls' hR hS h1 h2 (wq_L.st1 hl'))
  | some a => exact wq_astore hd hn hl kk
theorem wq_aconst (hd : decode M.2.1 pc = .ok (.aconst_null, 1)) (k : wq_T G l d M Q (pc + 1) L (va_rf none :: st) h C S) : wq_T G l d M Q pc L st h C S :=
  fun p e s m args below meth c R X H locs cells slots ls hR hS h1 h2 hL => lv_null X.1 X.2.1 hd (k p e s m args below meth c R X H locs cells slots ls hR hS h1 h2 hL)
theorem wx_ai {a : Nat} {i : Int32} {F : Int32 → Prop} (hd : decode M.2.1 pc = .ok (.iaload, 1)) (V : wq_ai G h a i F) (kk : ∀ x, F x → wq_T G l d M Q (pc + 1) L (.int x :: st) h C S) : wq_T G l d M Q pc L (.int i :: .ref a :: st) h C S := by
  obtain ⟨n, f, h1, h2, V⟩ := V
  exact wq_iald hd h1 h2 (kk _ V)
theorem wx_ab {a : Nat} {i : Int32} {F : Int32 → Prop} (hd : decode M.2.1 pc = .ok (.baload, 1)) (V : wq_ab G h a i F) (kk : ∀ x, F x → wq_T G l d M Q (pc + 1) L (.int x :: st) h C S) : wq_T G l d M Q pc L (.int i :: .ref a :: st) h C S := by
  obtain ⟨n, f, h1, h2, V⟩ := V
  exact wq_bald hd h1 h2 (kk _ V)
theorem wx_aj {a : Nat} {i : Int32} {F : Int64 → Prop} (hd : decode M.2.1 pc = .ok (.laload, 1)) (V : wq_aj G h a i F) (kk : ∀ x, F x → wq_T G l d M Q (pc + 1) L (.long x :: st) h C S) : wq_T G l d M Q pc L (.int i :: .ref a :: st) h C S := by
  obtain ⟨n, f, h1, h2, V⟩ := V
  exact wq_lald hd h1 h2 (kk _ V)
theorem wx_ar {a : Nat} {i : Int32} {F : Option Nat → Prop} (hd : decode M.2.1 pc = .ok (.aaload, 1)) (V : wq_ar G h a i F) (kk : ∀ x, F x → wq_T G l d M Q (pc + 1) L (va_rf x :: st) h C S) : wq_T G l d M Q pc L (.int i :: .ref a :: st) h C S := by
  obtain ⟨n, f, h1, h2, V⟩ := V
  exact wq_aald hd h1 h2 (kk _ V)
theorem wx_si {a : Nat} {i x : Int32} {F : wq_H → Prop} (hd : decode M.2.1 pc = .ok (.iastore, 1)) (V : wq_si G h a i x F) (kk : ∀ h', F h' → wq_T G l d M Q (pc + 1) L st h' C S) : wq_T G l d M Q pc L (.int x :: .int i :: .ref a :: st) h C S := by
  obtain ⟨n, f, h1, h2, h3, V⟩ := V
  exact wq_iast hd h1 h2 h3 (kk _ V)
theorem wx_sb {a : Nat} {i x : Int32} {F : wq_H → Prop} (hd : decode M.2.1 pc = .ok (.bastore, 1)) (V : wq_sb G h a i x F) (kk : ∀ h', F h' → wq_T G l d M Q (pc + 1) L st h' C S) : wq_T G l d M Q pc L (.int x :: .int i :: .ref a :: st) h C S := by
  obtain ⟨n, f, h1, h2, h3, V⟩ := V
  exact wq_bast hd h1 h2 h3 (kk _ V)
theorem wx_sj {a : Nat} {i : Int32} {x : Int64} {F : wq_H → Prop} (hd : decode M.2.1 pc = .ok (.lastore, 1)) (V : wq_sj G h a i x F) (kk : ∀ h', F h' → wq_T G l d M Q (pc + 1) L st h' C S) : wq_T G l d M Q pc L (.long x :: .int i :: .ref a :: st) h C S := by
  obtain ⟨n, f, h1, h2, h3, V⟩ := V
  exact wq_last hd h1 h2 h3 (kk _ V)
theorem wx_sr {a : Nat} {i : Int32} {r : Option Nat} {F : wq_H → Prop} (hd : decode M.2.1 pc = .ok (.aastore, 1)) (V : wq_sr G h a i r F) (kk : ∀ h', F h' → wq_T G l d M Q (pc + 1) L st h' C S) : wq_T G l d M Q pc L (va_rf r :: .int i :: .ref a :: st) h C S := by
  obtain ⟨hv, n, f, h1, hz, h3, V⟩ := V
  intro p e s m args below meth c R X H locs cells slots ls hR hS g1 g2 hL
  have hE := X.2.2.2.2.2.2.2.2.1
  obtain ⟨q0, h0⟩ := wq_ws_at hR h1 hz
  cases r with
  | none => exact va_astqN (D := G.2.1) (A := wq_A G) (H0 := s.heap) X.1 X.2.1 hE.1 (wq_ws_P hR) (wq_ws_D G h H.size) hS q0 3 h0 rfl h3 hd (fun H1 locs1 hP hD hS1 => kk _ V p e s m args below meth c R X H1 locs1 cells slots ls (hR.put hz h0 hP (Nat.le_trans hE.2.2.1 hS1.1)) hS1 g1 g2 hL)
  | some v =>
    obtain ⟨ci, fs, hv⟩ := hv v rfl
    exact va_astqM (D := G.2.1) (A := wq_A G) (H0 := s.heap) X.1 X.2.1 hE.1 (wq_ws_P hR) (wq_ws_D G h H.size) hS q0 3 h0 rfl (wq_any hE hR hS hv) h3 hd (fun H1 locs1 hP hD hS1 => kk _ V p e s m args below meth c R X H1 locs1 cells slots ls (hR.put hz h0 hP (Nat.le_trans hE.2.2.1 hS1.1)) hS1 g1 g2 hL)
theorem wx_al {a : Nat} {F : Int32 → Prop} (hd : decode M.2.1 pc = .ok (.arraylength, 1)) (V : wq_ag G h a F) (kk : ∀ x, F x → wq_T G l d M Q (pc + 1) L (.int x :: st) h C S) : wq_T G l d M Q pc L (.ref a :: st) h C S := by
  obtain ⟨cA, ty, x, h1, h2, V⟩ := V
  exact wq_alen hd h1 h2 (kk _ V)
theorem wx_no {idx ci N : Nat} {Cn : String} {T : u_T} {fs : List Value} {F : Nat → wq_H → Prop} (ty0 : Nat → FieldType) (hty : ∀ k, k < N → parseFieldDescriptor (T k).2.2.1 = some (ty0 k)) (hc : vwCl[ci]? = some (Cn, T, N)) (hin : ∀ w ∈ u_ws Cn T N, w ∈ lw_all) (hl : Cond.classLink M.1.cls idx Cn ∈ lw_all) (hi : Cond.instantiable Cn N ∈ lw_all) (hini : Cond.initialized Cn ∈ lw_all) (hfs : ∀ j, j < N → defaultValue (ty0 j) = vp_V fs j)
    (hd : decode M.2.1 pc = .ok (.new idx, 3)) (V : wq_no G h ci fs N C S F) (kk : ∀ q h', F q h' → wq_T G l d M Q (pc + 3) L (.ref q :: st) h' (C - 1) (S - N)) : wq_T G l d M Q pc L st h C S := by
  obtain ⟨h1, h2, V⟩ := V
  have e1 : C - 1 + 1 = C := by omega
  have e2 : S - N + N = S := by omega
  have := wq_new (Q := Q) (C := C - 1) (S := S - N) (st := st) (L := L) (l := l) (d := d) ty0 hty hc hin hl hi hini hfs hd (fun q g1 g2 => kk q _ (V q g1 g2))
  rwa [e1, e2] at this
theorem wx_nI {n : Int32} {N : Nat} {F : Nat → wq_H → Prop} (hw : Cond.arrayClass .int ∈ lw_all) (hd : decode M.2.1 pc = .ok (.newarray .int, 2)) (V : wq_na G h (.inl (G.2.2.1 0, N, .inl (fun _ => 0))) n N C S F) (kk : ∀ q h', F q h' → wq_T G l d M Q (pc + 2) L (.ref q :: st) h' (C - 1) (S - N)) : wq_T G l d M Q pc L (.int n :: st) h C S := by
  obtain ⟨h1, h2, h3, h4, h5, V⟩ := V
  have e1 : C - 1 + 1 = C := by omega
  have e2 : S - N + N = S := by omega
  have := wq_newI (Q := Q) (C := C - 1) (S := S - N) (st := st) (L := L) (l := l) (d := d) hd hw h1 h2 h3 (fun q g1 g2 => kk q _ (V q g1 g2))
  rwa [e1, e2] at this
theorem wx_nB {n : Int32} {N : Nat} {F : Nat → wq_H → Prop} (hw : Cond.arrayClass .byte ∈ lw_all) (hd : decode M.2.1 pc = .ok (.newarray .byte, 2)) (V : wq_na G h (.inl (G.2.2.1 2, N, .inl (fun _ => 0))) n N C S F) (kk : ∀ q h', F q h' → wq_T G l d M Q (pc + 2) L (.ref q :: st) h' (C - 1) (S - N)) : wq_T G l d M Q pc L (.int n :: st) h C S := by
  obtain ⟨h1, h2, h3, h4, h5, V⟩ := V
  have e1 : C - 1 + 1 = C := by omega
  have e2 : S - N + N = S := by omega
  have := wq_newB (Q := Q) (C := C - 1) (S := S - N) (st := st) (L := L) (l := l) (d := d) hd hw h1 h2 h3 (fun q g1 g2 => kk q _ (V q g1 g2))
  rwa [e1, e2] at this
theorem wx_nJ {n : Int32} {N : Nat} {F : Nat → wq_H → Prop} (hw : Cond.arrayClass .long ∈ lw_all) (hd : decode M.2.1 pc = .ok (.newarray .long, 2)) (V : wq_na G h (.inl (G.2.2.1 1, N, .inr (.inl (fun _ => 0)))) n N C S F) (kk : ∀ q h', F q h' → wq_T G l d M Q (pc + 2) L (.ref q :: st) h' (C - 1) (S - N)) : wq_T G l d M Q pc L (.int n :: st) h C S := by
  obtain ⟨h1, h2, h3, h4, h5, V⟩ := V
  have e1 : C - 1 + 1 = C := by omega
  have e2 : S - N + N = S := by omega
  have := wq_newL (Q := Q) (C := C - 1) (S := S - N) (st := st) (L := L) (l := l) (d := d) hd hw h1 h2 h3 (fun q g1 g2 => kk q _ (V q g1 g2))
  rwa [e1, e2] at this
theorem wx_nR {idx : Nat} {n : Int32} {N : Nat} {F : Nat → wq_H → Prop} (hl : Cond.classLink M.1.cls idx "java/lang/Object" ∈ lw_all) (hd : decode M.2.1 pc = .ok (.anewarray idx, 3)) (V : wq_na G h (.inl (G.2.2.1 3, N, wq_ra (fun _ => none))) n N C S F) (kk : ∀ q h', F q h' → wq_T G l d M Q (pc + 3) L (.ref q :: st) h' (C - 1) (S - N)) : wq_T G l d M Q pc L (.int n :: st) h C S := by
  obtain ⟨h1, h2, h3, h4, h5, V⟩ := V
  intro p e s m args below meth c R X H locs cells slots ls hR hS g1 g2 hL
  obtain ⟨x1, x2, x3, x4, x5, x6, x7, x8, hE, x9⟩ := id X
  refine va_newq (D := G.2.1) (A := wq_A G) (H0 := s.heap) (C := "java/lang/Object") x1 x2 x5 (x6 _ hl) hE.2.2.2.2.2.1 hE.1 (wq_ws_P hR) (wq_ws_D G h H.size) hS (fun q hq => Nat.le_trans hE.2.2.1 hq) h1 h2 (by omega) (by omega) (by omega) hd (fun q cA H1 hK hP hD hS1 => ?_)
  obtain ⟨kA, comp, -, -, -, e1⟩ := (hK.2 4 _ rfl).2
  obtain ⟨kA2, comp2, -, -, -, e2⟩ := (hE.1.2 3 _ rfl).2
  cases e1.symm.trans e2
  obtain ⟨f1, f2, f3⟩ := hR.new hP hD (Nat.le_trans hE.2.2.1 hS1.1)
  exact kk q _ (V q f1 f2) p e s m args below meth c R X H1 locs (cells + 1) (slots + N) ls f3 hS1 (by omega) (by omega) hL
/-- a checkcast to a class: the object is of one of the classes cs, each that class or castable to it -/
theorem wx_ct {idx : Nat} {nm : String} {r : Option Nat} {cs : List Nat} {F : Nat → Prop} (hl : Cond.classLink M.1.cls idx nm ∈ lw_all) (hcs : ∀ ci ∈ cs, ∃ q, vwCl[ci]? = some q ∧ (q.1 = nm ∨ Cond.castable q.1 nm ∈ wq_nw)) (hd : decode M.2.1 pc = .ok (.checkcast idx, 3)) (V : wq_ct h r cs F) (kk : ∀ a, F a → wq_T G l d M Q (pc + 3) L (.ref a :: st) h C S) : wq_T G l d M Q pc L (va_rf r :: st) h C S := by
  obtain ⟨a, ci, fs, rfl, h2, h3, V⟩ := V
  obtain ⟨q, h4, h5⟩ := hcs ci h2
  intro p e s m args below meth c R X H locs cells slots ls hR hS g1 g2 hL
  obtain ⟨x1, x2, x3, x4, x5, x6, x7, x8, hE, x9⟩ := id X
  have hr := wq_recv hE hR hS h3 h4
  rcases h5 with h5 | h5
  · rw [h5] at hr
    exact va_castE x1 x2 x5 (x6 _ hl) hr hd (kk a V p e s m args below meth c R X H locs cells slots ls hR hS g1 g2 hL)
  · exact va_castY x1 x2 x5 (x6 _ hl) (hE.2.1 _ h5) hr hd (kk a V p e s m args below meth c R X H locs cells slots ls hR hS g1 g2 hL)
theorem wx_inst {idx : Nat} {nm : String} {a ci : Nat} {fs : List Value} {q : vw_C} (hl : Cond.classLink M.1.cls idx nm ∈ lw_all) (hc : vwCl[ci]? = some q) (hq : q.1 = nm) (hd : decode M.2.1 pc = .ok (.instanceof idx, 3)) (hh : h a = some (.inr (ci, fs))) (kk : wq_T G l d M Q (pc + 3) L (.int 1 :: st) h C S) : wq_T G l d M Q pc L (.ref a :: st) h C S := by
  intro p e s m args below meth c R X H locs cells slots ls hR hS g1 g2 hL
  obtain ⟨x1, x2, x3, x4, x5, x6, x7, x8, hE, x9⟩ := id X
  have hr := wq_recv hE hR hS hh hc
  rw [hq] at hr
  exact va_instE x1 x2 x5 (x6 _ hl) hr hd (kk p e s m args below meth c R X H locs cells slots ls hR hS g1 g2 hL)
/-- behind a call, by the kind of its answer -/
theorem wx_ki {C' S' : Nat} {F : Int32 → wq_H → Prop} {pc : Nat} {st : List Value} (kk : ∀ x h', F x h' → wq_T G l d M Q pc L (.int x :: st) h' C' S') : ∀ r h', wq_qi F r h' → wq_T G l d M Q pc L (r.toList ++ st) h' C' S' := by
  rintro r h' ⟨x, rfl, h3⟩
  exact kk x h' h3
theorem wx_kj {C' S' : Nat} {F : Int64 → wq_H → Prop} {pc : Nat} {st : List Value} (kk : ∀ x h', F x h' → wq_T G l d M Q pc L (.long x :: st) h' C' S') : ∀ r h', wq_qj F r h' → wq_T G l d M Q pc L (r.toList ++ st) h' C' S' := by
  rintro r h' ⟨x, rfl, h3⟩
  exact kk x h' h3
theorem wx_kv {C' S' : Nat} {F : wq_H → Prop} {pc : Nat} {st : List Value} (kk : ∀ h', F h' → wq_T G l d M Q pc L st h' C' S') : ∀ r h', wq_qv F r h' → wq_T G l d M Q pc L (r.toList ++ st) h' C' S' := by
  rintro r h' ⟨rfl, h3⟩
  exact kk h' h3
theorem wx_kq {C' S' : Nat} {F : Option Nat → wq_H → Prop} {pc : Nat} {st : List Value} (kk : ∀ x h', F x h' → wq_T G l d M Q pc L (va_rf x :: st) h' C' S') : ∀ r h', wq_qq F r h' → wq_T G l d M Q pc L (r.toList ++ st) h' C' S' := by
  rintro r h' ⟨x, rfl, h3⟩
  exact kk x h' h3
/-- calls with the room that is left: as in the second text, and nest mates, and super -/
theorem wx_V {idx b ci n : Nat} {fs As : List Value} {M' : wq_M} {q : vw_C} {Q' : Nat → Nat → Option Value → wq_H → Prop} (hT : GoodIn lw_all (wsV M.1.cls idx q.1 M'.1 (ws_ M'.1 M'.2.1 M'.2.2.1 M'.2.2.2))) (hc : vwCl[ci]? = some q) (hdd : M'.1.cls = q.1 ∧ M'.1.cls ≠ "java/lang/invoke/MethodHandle" ∧ M'.1.cls ≠ "java/lang/invoke/VarHandle" ∧ (parseMethodDescriptor M'.1.desc).map (fun d => d.parameters.length) = some n) (hml : M'.2.2.1 ≤ 31)
    (hd : decode M.2.1 pc = .ok (.invokevirtual idx, 3)) (hAs : As.length = n) (hst : (st.map fun v => v.category).sum ≤ 8) (hb : h b = some (.inr (ci, fs))) (V : wq_cc G l d C S M' (.ref b :: As) h Q')
    (kk : ∀ C' S' r h', Q' C' S' r h' → wq_T G l d M Q (pc + 3) L (r.toList ++ st) h' C' S') : wq_T G l d M Q pc L (As.reverse ++ .ref b :: st) h C S := by
  obtain ⟨d', mc, ms, h1, h2, h3, V⟩ := V
  exact wq_callV hT hc hdd hml hd hAs hst hb h1 h2 h3 V (kk _ _)
theorem wx_U {idx b ci n : Nat} {fs As : List Value} {M' : wq_M} {q : vw_C} {owner : String} {x : MethodName} {Q' : Nat → Nat → Option Value → wq_H → Prop} (hT : ∀ (R : Room) (s : State) (args : Array Value) (rm : Room) (mc ms : Nat), (∀ w ∈ lw_all, w.before args s = true) → (∀ w ∈ wq_nw, va_Nw w s) → rm.cells = mc → rm.slots = ms → rm.frames + 1 ≤ R.frames ∧ 8 + (M'.2.2.1 + 11) + rm.locals ≤ R.locals → va_CU R s args M.1.cls q.1 owner idx x M'.1 M'.2.1 M'.2.2.1 M'.2.2.2 (ws_ M'.1 M'.2.1 M'.2.2.1 M'.2.2.2) rm mc ms n) (hc : vwCl[ci]? = some q) (hml : M'.2.2.1 ≤ 31)
    (hd : decode M.2.1 pc = .ok (.invokevirtual idx, 3)) (hAs : As.length = n) (hst : (st.map fun v => v.category).sum ≤ 8) (hb : h b = some (.inr (ci, fs))) (V : wq_cc G l d C S M' (.ref b :: As) h Q')
    (kk : ∀ C' S' r h', Q' C' S' r h' → wq_T G l d M Q (pc + 3) L (r.toList ++ st) h' C' S') : wq_T G l d M Q pc L (As.reverse ++ .ref b :: st) h C S := by
  obtain ⟨d', mc, ms, h1, h2, h3, V⟩ := V
  exact wq_callU hT hc hml hd hAs hst hb h1 h2 h3 V (kk _ _)
theorem wx_S {idx n : Nat} {As : List Value} {M' : wq_M} {Q' : Nat → Nat → Option Value → wq_H → Prop} (hT : GoodIn lw_all (va_wsS M.1.cls idx M'.1 (ws_ M'.1 M'.2.1 M'.2.2.1 M'.2.2.2))) (hdd : M'.1.cls ≠ "java/lang/invoke/MethodHandle" ∧ M'.1.cls ≠ "java/lang/invoke/VarHandle" ∧ (parseMethodDescriptor M'.1.desc).map (fun d => d.parameters.length) = some n) (hml : M'.2.2.1 ≤ 31)
    (hd : decode M.2.1 pc = .ok (.invokestatic idx, 3)) (hAs : As.length = n) (hst : (st.map fun v => v.category).sum ≤ 8) (V : wq_cc G l d C S M' As h Q')
    (kk : ∀ C' S' r h', Q' C' S' r h' → wq_T G l d M Q (pc + 3) L (r.toList ++ st) h' C' S') : wq_T G l d M Q pc L (As.reverse ++ st) h C S := by
  obtain ⟨d', mc, ms, h1, h2, h3, V⟩ := V
  exact wq_callS hT hdd hml hd hAs hst h1 h2 h3 V (kk _ _)
theorem wx_I {idx b n : Nat} {As : List Value} {M' : wq_M} {Q' : Nat → Nat → Option Value → wq_H → Prop} (hcode : Cond.code M'.1 M'.2.1 M'.2.2.1 none ∈ lw_all) (hini : Cond.initialized M'.1.cls ∈ lw_all) (hl : Cond.methodLink M.1.cls idx M'.1 ∈ lw_all) (hin : Cond.instanceMethod M'.1 ∈ lw_all) (hy : M'.1.name = "<init>") (hr : M'.2.2.2 = none) (hdd : M'.1.cls ≠ "java/lang/invoke/MethodHandle" ∧ M'.1.cls ≠ "java/lang/invoke/VarHandle" ∧ (parseMethodDescriptor M'.1.desc).map (fun d => d.parameters.length) = some n) (hml : M'.2.2.1 ≤ 31)
    (hd : decode M.2.1 pc = .ok (.invokespecial idx, 3)) (hAs : As.length = n) (hst : (st.map fun v => v.category).sum ≤ 8) (V : wq_cc G l d C S M' (.ref b :: As) h Q')
    (kk : ∀ C' S' r h', Q' C' S' r h' → wq_T G l d M Q (pc + 3) L (r.toList ++ st) h' C' S') : wq_T G l d M Q pc L (As.reverse ++ .ref b :: st) h C S := by
  obtain ⟨d', mc, ms, h1, h2, h3, V⟩ := V
  exact wq_callI hcode hini hl hin hy hr hdd hml hd hAs hst h1 h2 h3 V (kk _ _)
theorem wx_SN {idx n : Nat} {host : String} {As : List Value} {M' : wq_M} {Q' : Nat → Nat → Option Value → wq_H → Prop} (hcode : Cond.code M'.1 M'.2.1 M'.2.2.1 M'.2.2.2 ∈ lw_all) (hini : Cond.initialized M'.1.cls ∈ lw_all) (hl : Cond.methodLinkNest M.1.cls idx M'.1 host ∈ wq_nw) (hstat : Cond.static M'.1 ∈ lw_all) (hdd : M'.1.cls ≠ "java/lang/invoke/MethodHandle" ∧ M'.1.cls ≠ "java/lang/invoke/VarHandle" ∧ (parseMethodDescriptor M'.1.desc).map (fun d => d.parameters.length) = some n) (hml : M'.2.2.1 ≤ 31)
    (hd : decode M.2.1 pc = .ok (.invokestatic idx, 3)) (hAs : As.length = n) (hst : (st.map fun v => v.category).sum ≤ 8) (V : wq_cc G l d C S M' As h Q')
    (kk : ∀ C' S' r h', Q' C' S' r h' → wq_T G l d M Q (pc + 3) L (r.toList ++ st) h' C' S') : wq_T G l d M Q pc L (As.reverse ++ st) h C S := by
  obtain ⟨d', mc, ms, hlt, hmc, hms, hcon⟩ := V
  intro p e s m args below meth c R X H locs cells slots ls hR hS h1 h2 hL
  obtain ⟨x1, x2, x3, x4, x5, x6, x7, x8, hE, x9, x10⟩ := id X
  refine wq_after X (va_runSN (As := As) (rest := st) ⟨x1, x2, x4, x5, x6⟩ hcon ⟨va_cnB n x6 (lw_meth hcode) rfl rfl rfl (hE.2.1 _ hl) (x6 _ hini) hdd ⟨by show d' + 1 ≤ R.frames; omega, by show 8 + (M'.2.2.1 + 11) + 50 * d' ≤ R.locals; omega⟩, x6 _ hstat, trivial⟩ ⟨wq_blind, wq_pre hE hR hS⟩ rfl hAs hL.1 rfl (lv_room hst) hd ⟨by omega, by omega⟩) hS h1 h2 hmc hms hL (kk _ _)
theorem wx_IN {idx b n : Nat} {host : String} {As : List Value} {M' : wq_M} {Q' : Nat → Nat → Option Value → wq_H → Prop} (hcode : Cond.code M'.1 M'.2.1 M'.2.2.1 none ∈ lw_all) (hini : Cond.initialized M'.1.cls ∈ lw_all) (hl : Cond.methodLinkNest M.1.cls idx M'.1 host ∈ wq_nw) (hin : Cond.instanceMethod M'.1 ∈ lw_all) (hy : M'.1.name = "<init>") (hr : M'.2.2.2 = none) (hdd : M'.1.cls ≠ "java/lang/invoke/MethodHandle" ∧ M'.1.cls ≠ "java/lang/invoke/VarHandle" ∧ (parseMethodDescriptor M'.1.desc).map (fun d => d.parameters.length) = some n) (hml : M'.2.2.1 ≤ 31)
    (hd : decode M.2.1 pc = .ok (.invokespecial idx, 3)) (hAs : As.length = n) (hst : (st.map fun v => v.category).sum ≤ 8) (V : wq_cc G l d C S M' (.ref b :: As) h Q')
    (kk : ∀ C' S' r h', Q' C' S' r h' → wq_T G l d M Q (pc + 3) L (r.toList ++ st) h' C' S') : wq_T G l d M Q pc L (As.reverse ++ .ref b :: st) h C S := by
  obtain ⟨d', mc, ms, hlt, hmc, hms, hcon⟩ := V
  intro p e s m args below meth c R X H locs cells slots ls hR hS h1 h2 hL
  obtain ⟨x1, x2, x3, x4, x5, x6, x7, x8, hE, x9, x10⟩ := id X
  have hcon : Met l M'.1 (ws_ M'.1 M'.2.1 M'.2.2.1 none) { frames := d', cells := mc, slots := ms, locals := 50 * d' } (va_Pc (.ref b :: As) (fun U => wq_En G U ∧ wq_R G h U.heap)) (wq_Qc G (Q' (C - mc) (S - ms))) mc ms (wq_A G) := by
    rw [← hr]; exact hcon
  refine wq_after X (va_runIN (As := As) (rest := st) ⟨x1, x2, x4, x5, x6⟩ hcon ⟨va_cnB n x6 (lw_meth hcode) rfl rfl rfl (hE.2.1 _ hl) (x6 _ hini) hdd ⟨by show d' + 1 ≤ R.frames; omega, by show 8 + (M'.2.2.1 + 11) + 50 * d' ≤ R.locals; omega⟩, hy, x6 _ hin⟩ ⟨wq_blind, wq_pre hE hR hS⟩ rfl hAs hL.1 rfl (lv_room hst) hd ⟨by omega, by omega⟩) hS h1 h2 hmc hms hL (kk _ _)
theorem wx_SU {idx b ci n : Nat} {fs As : List Value} {M' : wq_M} {q : vw_C} {Q' : Nat → Nat → Option Value → wq_H → Prop} (hT : GoodIn lw_all (va_wsSU M.1.cls idx M'.1 (ws_ M'.1 M'.2.1 M'.2.2.1 M'.2.2.2))) (hc : vwCl[ci]? = some q) (hdd : M'.1.name ≠ "<init>" ∧ (parseMethodDescriptor M'.1.desc).map (fun d => d.parameters.length) = some n) (hml : M'.2.2.1 ≤ 31)
    (hd : decode M.2.1 pc = .ok (.invokespecial idx, 3)) (hAs : As.length = n) (hst : (st.map fun v => v.category).sum ≤ 8) (hb : h b = some (.inr (ci, fs))) (V : wq_cc G l d C S M' (.ref b :: As) h Q')
    (kk : ∀ C' S' r h', Q' C' S' r h' → wq_T G l d M Q (pc + 3) L (r.toList ++ st) h' C' S') : wq_T G l d M Q pc L (As.reverse ++ .ref b :: st) h C S := by
  obtain ⟨d', mc, ms, hlt, hmc, hms, hcon⟩ := V
  intro p e s m args below meth c R X H locs cells slots ls hR hS h1 h2 hL
  obtain ⟨x1, x2, x3, x4, x5, x6, x7, x8, hE, x9, x10⟩ := id X
  refine wq_after X (va_runSU (As := As) (rest := st) (C := q.1) (hE.1.1 ci q hc).2 ⟨x1, x2, x4, x5, x6⟩ hcon (va_cwSU n x6 hT rfl rfl rfl hdd ⟨by show d' + 1 ≤ R.frames; omega, by show 8 + (M'.2.2.1 + 11) + 50 * d' ≤ R.locals; omega⟩) ⟨wq_blind, wq_recv hE hR hS hb hc, wq_pre hE hR hS⟩ rfl hAs hL.1 rfl (lv_room hst) hd ⟨by omega, by omega⟩) hS h1 h2 hmc hms hL (kk _ _)
end WQ3
