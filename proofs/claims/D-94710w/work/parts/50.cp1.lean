/-! CONTRACTS of the component: lists, sets of looks, tables that are read -/
set_option maxRecDepth 100000
theorem pn_J2 : plainName RJ2 = true := by decide +kernel
theorem pn_J11 : plainName RJ11 = true := by decide +kernel
theorem pn_J12 : plainName RJ12 = true := by decide +kernel
theorem pn_X7 : plainName RX7 = true := by decide +kernel
theorem pn_X9 : plainName RX9 = true := by decide +kernel
theorem pn_X10 : plainName RX10 = true := by decide +kernel
theorem pn_X11 : plainName RX11 = true := by decide +kernel
theorem gI1 {h : wq_H} {a ci k : Nat} {fs : List Value} {x : Int32} {F : Int32 → Prop} (ha : h a = some (.inr (ci, fs))) (hv : fs[k]? = some (.int x)) (q : F x) : wq_gI h a [(ci, k)] F := ⟨ci, k, fs, x, List.mem_cons_self, ha, hv, q⟩
theorem gJ1 {h : wq_H} {a ci k : Nat} {fs : List Value} {x : Int64} {F : Int64 → Prop} (ha : h a = some (.inr (ci, fs))) (hv : fs[k]? = some (.long x)) (q : F x) : wq_gJ h a [(ci, k)] F := ⟨ci, k, fs, x, List.mem_cons_self, ha, hv, q⟩
theorem gR1 {h : wq_H} {a ci k : Nat} {fs : List Value} {x : Nat} {F : Nat → Prop} (ha : h a = some (.inr (ci, fs))) (hv : fs[k]? = some (.ref x)) (q : F x) : wq_gR h a [(ci, k)] F := ⟨ci, k, fs, x, List.mem_cons_self, ha, hv, q⟩
theorem gQ1 {h : wq_H} {a ci k : Nat} {fs : List Value} {x : Option Nat} {F : Option Nat → Prop} (ha : h a = some (.inr (ci, fs))) (hv : fs[k]? = some (va_rf x)) (q : F x) : wq_gQ h a [(ci, k)] F := ⟨ci, k, fs, x, List.mem_cons_self, ha, hv, q⟩
theorem pf1 {G : wq_G} {h : wq_H} {a ci k : Nat} {fs : List Value} {v : Value} {F : wq_H → Prop} (ha : h a = some (.inr (ci, fs))) (hz : G.1 ≤ a) (hl : k < fs.length) (q : F (wq_set h a (.inr (ci, fs.set k v)))) : wq_pf G h a [(ci, k)] v F := ⟨ci, k, fs, List.mem_cons_self, ha, hz, hl, q⟩
theorem ai_n {G : wq_G} {h : wq_H} {a m : Nat} {f : Nat → Int32} {i : Int32} {F : Int32 → Prop} (ha : h a = some (.inl (G.2.2.1 0, m, .inl f))) (n : Nat) (e : i = nI n) (hn : n < m) (hm : m < 2 ^ 31) (q : F (f n)) : wq_ai G h a i F := by
  subst e
  refine ⟨m, f, ha, vp_in_nI hn hm, ?_⟩
  rw [nI_clamp (by omega)]
  exact q
theorem ar_n {G : wq_G} {h : wq_H} {a m : Nat} {f : Nat → Option Nat} {i : Int32} {F : Option Nat → Prop} (ha : h a = some (.inl (G.2.2.1 3, m, wq_ra f))) (n : Nat) (e : i = nI n) (hn : n < m) (hm : m < 2 ^ 31) (q : F (f n)) : wq_ar G h a i F := by
  subst e
  refine ⟨m, f, ha, vp_in_nI hn hm, ?_⟩
  rw [nI_clamp (by omega)]
  exact q
section CP1
variable {G : wq_G} {l : Launch} {d C S : Nat} {M : wq_M} {h : wq_H} {args : List Value}
theorem wq_ci.eq {d' : Nat} {v : Int32} {F : Int32 → wq_H → Nat → Nat → Prop} (hd : d' < d) (c : wq_C G l d' 0 0 M args h (wq_qi fun x h' => x = v ∧ h' = h)) (k : F v h C S) : wq_ci G l d C S M args h F :=
  wq_ci.use hd (Nat.zero_le _) (Nat.zero_le _) c (fun x h' q => by rw [q.1, q.2]; exact k)
theorem wq_cq.eq {d' : Nat} {v : Option Nat} {F : Option Nat → wq_H → Nat → Nat → Prop} (hd : d' < d) (c : wq_C G l d' 0 0 M args h (wq_qq fun x h' => x = v ∧ h' = h)) (k : F v h C S) : wq_cq G l d C S M args h F :=
  wq_cq.use hd (Nat.zero_le _) (Nat.zero_le _) c (fun x h' q => by rw [q.1, q.2]; exact k)
/-- a list: its object, its array, what it holds -/
def al_at (G : wq_G) (h : wq_H) (a ba : Nat) (es : List Nat) : Prop := ∃ (m : Int32) (n : Nat) (f : Nat → Option Nat), h a = some (.inr (16, [.int m, .ref ba, .int (nI es.length)])) ∧ h ba = some (.inl (G.2.2.1 3, n, wq_ra f)) ∧ es.length ≤ n ∧ n ≤ 100000 ∧ ∀ k x, es[k]? = some x → f k = some x
theorem c_chk {i n : Nat} (hi : i < n) (hn : n < 2 ^ 31) (r : Option Nat) : wq_C G l 0 0 0 mJ11_checkIndex [.int (nI i), .int (nI n), va_rf r] h (wq_qi fun x h' => x = nI i ∧ h' = h) := by
  cases r with
  | none => exact wq_C.of pn_J11 (Nat.le_of_ble_eq_true rfl) rfl (vJ11_checkIndex_0 (x2 := none) ⟨fun c => nI_pos (by omega) c, fun _ => ⟨fun _ => ⟨rfl, rfl⟩, fun c => c (nI_lt hi hn)⟩⟩)
  | some r => exact wq_C.of pn_J11 (Nat.le_of_ble_eq_true rfl) rfl (vJ11_checkIndex_0 (x2 := some r) ⟨fun c => nI_pos (by omega) c, fun _ => ⟨fun _ => ⟨rfl, rfl⟩, fun c => c (nI_lt hi hn)⟩⟩)
theorem c_check {i n : Nat} (hi : i < n) (hn : n < 2 ^ 31) : wq_C G l 1 0 0 mJ12_checkIndex [.int (nI i), .int (nI n)] h (wq_qi fun x h' => x = nI i ∧ h' = h) :=
  wq_C.of pn_J12 (Nat.le_of_ble_eq_true rfl) rfl (vJ12_checkIndex_0 (wq_ci.eq (by decide) (c_chk hi hn none) ⟨rfl, rfl⟩))
theorem c_size {a ba : Nat} {es : List Nat} (ha : al_at G h a ba es) : wq_C G l 0 0 0 mJ2_size [.ref a] h (wq_qi fun x h' => x = nI es.length ∧ h' = h) := by
  obtain ⟨m, n, f, h1, -⟩ := ha
  exact wq_C.of pn_J2 (Nat.le_of_ble_eq_true rfl) rfl (vJ2_size_0 (gI1 h1 rfl ⟨rfl, rfl⟩))
theorem c_isEmpty {a ba : Nat} {es : List Nat} (ha : al_at G h a ba es) : wq_C G l 0 0 0 mJ2_isEmpty [.ref a] h (wq_qi fun x h' => x = b2i (decide (es.length = 0)) ∧ h' = h) := by
  obtain ⟨m, n, f, h1, -, h2, h3, -⟩ := ha
  refine wq_C.of pn_J2 (Nat.le_of_ble_eq_true rfl) rfl (vJ2_isEmpty_0 (gI1 h1 rfl ?_))
  rw [nI_lit 0, nI_eq (by omega) (by omega)]
  exact ⟨fun c => ⟨b2i_not c, rfl⟩, fun c => ⟨b2i_of c, rfl⟩⟩
theorem c_elem {a ba : Nat} {es : List Nat} (ha : al_at G h a ba es) {i x : Nat} (hx : es[i]? = some x) : wq_C G l 0 0 0 mJ2_elementData [.ref a, .int (nI i)] h (wq_qq fun r h' => r = some x ∧ h' = h) := by
  obtain ⟨m, n, f, h1, h2, h3, h4, h5⟩ := ha
  have hi := (List.getElem?_eq_some_iff.mp hx).1
  refine wq_C.of pn_J2 (Nat.le_of_ble_eq_true rfl) rfl (vJ2_elementData_0 (gR1 h1 rfl (ar_n h2 i rfl (by omega) (by omega) ?_)))
  exact ⟨h5 i x hx, rfl⟩
theorem c_get {a ba : Nat} {es : List Nat} (ha : al_at G h a ba es) {i x : Nat} (hx : es[i]? = some x) : wq_C G l 2 0 0 mJ2_get [.ref a, .int (nI i)] h (wq_qq fun r h' => r = some x ∧ h' = h) := by
  obtain ⟨m, n, f, h1, h2, h3, h4, h5⟩ := id ha
  have hi := (List.getElem?_eq_some_iff.mp hx).1
  exact wq_C.of pn_J2 (Nat.le_of_ble_eq_true rfl) rfl (vJ2_get_0 (gI1 h1 rfl (wq_ci.eq (by decide) (c_check hi (by omega)) ⟨_, h1, wq_cq.eq (by decide) (c_elem ha hx) ⟨rfl, rfl⟩⟩)))
/-- a set of looks: its object, its two arrays -/
def as_obj (e : zs_E) (ta ca : Nat) : Nat × List Value := match e.2.1 with
  | none => (8, [.ref ta, .ref ca, .int (nI e.1)])
  | some b => (9, [.ref ta, .ref ca, .int (nI e.1), .int (nI b)])
def as_at (G : wq_G) (h : wq_H) (a ta ca : Nat) (e : zs_E) : Prop := h a = some (.inr (as_obj e ta ca)) ∧ (∃ f : Nat → Int32, h ta = some (.inl (G.2.2.1 0, 4, .inl f)) ∧ ∀ o, o < zs_out e → f o = nI (e.2.2.1 o)) ∧ ∃ f : Nat → Int32, h ca = some (.inl (G.2.2.1 0, 4, .inl f)) ∧ ∀ o, o < zs_out e → f o = nI (e.2.2.2 o)
/-- a virtual call on a set, by its class -/
theorem as_v {a ta ca : Nat} {e : zs_E} (ha : as_at G h a ta ca e) {P8 P9 : Prop} (h8 : e.2.1 = none → P8) (h9 : ∀ b, e.2.1 = some b → P9) : (∃ fs : List Value, h a = some (.inr (8, fs)) ∧ P8) ∨ (∃ fs : List Value, h a = some (.inr (9, fs)) ∧ P9) := by
  obtain ⟨h1, -⟩ := ha
  unfold as_obj at h1
  split at h1
  · rename_i q; exact Or.inl ⟨_, h1, h8 q⟩
  · rename_i b q; exact Or.inr ⟨_, h1, h9 b q⟩
theorem as_8 {a ta ca : Nat} {e : zs_E} (ha : as_at G h a ta ca e) (q : e.2.1 = none) : h a = some (.inr (8, [.ref ta, .ref ca, .int (nI e.1)])) := by
  have h1 := ha.1
  unfold as_obj at h1
  rw [q] at h1
  exact h1
theorem as_9 {a ta ca b : Nat} {e : zs_E} (ha : as_at G h a ta ca e) (q : e.2.1 = some b) : h a = some (.inr (9, [.ref ta, .ref ca, .int (nI e.1), .int (nI b)])) := by
  have h1 := ha.1
  unfold as_obj at h1
  rw [q] at h1
  exact h1
theorem as_R0 {a ta ca : Nat} {e : zs_E} (ha : as_at G h a ta ca e) {F : Nat → Prop} (k : F ta) : wq_gR h a [(8, 0), (9, 0)] F := by
  cases q : e.2.1 with
  | none => exact ⟨8, 0, _, ta, by decide, as_8 ha q, rfl, k⟩
  | some b => exact ⟨9, 0, _, ta, by decide, as_9 ha q, rfl, k⟩
theorem as_R1 {a ta ca : Nat} {e : zs_E} (ha : as_at G h a ta ca e) {F : Nat → Prop} (k : F ca) : wq_gR h a [(8, 1), (9, 1)] F := by
  cases q : e.2.1 with
  | none => exact ⟨8, 1, _, ca, by decide, as_8 ha q, rfl, k⟩
  | some b => exact ⟨9, 1, _, ca, by decide, as_9 ha q, rfl, k⟩
theorem v_outcomes {a ta ca : Nat} {e : zs_E} (ha : as_at G h a ta ca e) (hd : 0 < d) {F : Int32 → wq_H → Nat → Nat → Prop} (k : F (nI (zs_out e)) h C S) : (∃ fs : List Value, h a = some (.inr (8, fs)) ∧ wq_ci G l d C S mX10_outcomes [.ref a] h F) ∨ (∃ fs : List Value, h a = some (.inr (9, fs)) ∧ wq_ci G l d C S mX11_outcomes [.ref a] h F) := by
  refine as_v ha (fun q => ?_) (fun b q => ?_)
  · refine wq_ci.eq hd (v := 2) (wq_C.of pn_X10 (Nat.le_of_ble_eq_true rfl) rfl (vX10_outcomes_0 ⟨rfl, rfl⟩)) ?_
    rw [zs_out, q] at k; exact k
  · refine wq_ci.eq hd (v := 4) (wq_C.of pn_X11 (Nat.le_of_ble_eq_true rfl) rfl (vX11_outcomes_0 ⟨rfl, rfl⟩)) ?_
    rw [zs_out, q] at k; exact k
theorem v_first {a ta ca : Nat} {e : zs_E} (ha : as_at G h a ta ca e) (hd : 0 < d) {F : Int32 → wq_H → Nat → Nat → Prop} (k : F (nI e.1) h C S) : (∃ fs : List Value, h a = some (.inr (8, fs)) ∧ wq_ci G l d C S mX10_first [.ref a] h F) ∨ (∃ fs : List Value, h a = some (.inr (9, fs)) ∧ wq_ci G l d C S mX11_first [.ref a] h F) := by
  refine as_v ha (fun q => ?_) (fun b q => ?_)
  · exact wq_ci.eq hd (wq_C.of pn_X10 (Nat.le_of_ble_eq_true rfl) rfl (vX10_first_0 (gI1 (as_8 ha q) rfl ⟨rfl, rfl⟩))) k
  · exact wq_ci.eq hd (wq_C.of pn_X11 (Nat.le_of_ble_eq_true rfl) rfl (vX11_first_0 (gI1 (as_9 ha q) rfl ⟨rfl, rfl⟩))) k
theorem v_second {a ta ca : Nat} {e : zs_E} (ha : as_at G h a ta ca e) (hd : 0 < d) {F : Int32 → wq_H → Nat → Nat → Prop} (k : F (ta_sec e.2.1) h C S) : (∃ fs : List Value, h a = some (.inr (8, fs)) ∧ wq_ci G l d C S mX10_second [.ref a] h F) ∨ (∃ fs : List Value, h a = some (.inr (9, fs)) ∧ wq_ci G l d C S mX11_second [.ref a] h F) := by
  refine as_v ha (fun q => ?_) (fun b q => ?_)
  · rw [q] at k
    exact wq_ci.eq hd (v := -2) (wq_C.of pn_X10 (Nat.le_of_ble_eq_true rfl) rfl (vX10_second_0 ⟨rfl, rfl⟩)) k
  · rw [q] at k
    exact wq_ci.eq hd (wq_C.of pn_X11 (Nat.le_of_ble_eq_true rfl) rfl (vX11_second_0 (gI1 (as_9 ha q) rfl ⟨rfl, rfl⟩))) k
theorem v_outcome {a ta ca : Nat} {e : zs_E} (ha : as_at G h a ta ca e) (h1 : e.1 < 6) (h2 : ∀ b, e.2.1 = some b → b < 6) {hh : Nat} (hh1 : hh < 2 ^ 31) (hd : 0 < d) {F : Int32 → wq_H → Nat → Nat → Prop} (k : F (nI (zs_fit e hh)) h C S) : (∃ fs : List Value, h a = some (.inr (8, fs)) ∧ wq_ci G l d C S mX10_outcome [.ref a, .int (nI hh)] h F) ∨ (∃ fs : List Value, h a = some (.inr (9, fs)) ∧ wq_ci G l d C S mX11_outcome [.ref a, .int (nI hh)] h F) := by
  refine as_v ha (fun q => ?_) (fun b q => ?_)
  · refine wq_ci.eq hd (wq_C.of pn_X10 (Nat.le_of_ble_eq_true rfl) rfl (vX10_outcome_0 (gI1 (as_8 ha q) rfl ⟨?_, rfl⟩))) k
    rw [nI_bit hh1 (by omega), zs_fit, q]
  · have := h2 b q
    refine wq_ci.eq hd (wq_C.of pn_X11 (Nat.le_of_ble_eq_true rfl) rfl (vX11_outcome_0 (gI1 (as_9 ha q) rfl (gI1 (as_9 ha q) rfl ⟨?_, rfl⟩)))) k
    rw [nI_bit hh1 (by omega), nI_bit hh1 (by omega), nI_lit 2, nI_mul, nI_add, zs_fit, q]
theorem c_isPossible {a ta ca : Nat} {e : zs_E} (ha : as_at G h a ta ca e) {o : Nat} (ho : o < zs_out e) (hb : e.2.2.1 o < 2 ^ 31) : wq_C G l 0 0 0 mX9_isPossible [.ref a, .int (nI o)] h (wq_qi fun x h' => x = b2i (decide (0 < e.2.2.1 o)) ∧ h' = h) := by
  obtain ⟨-, ⟨f, h1, h2⟩, -⟩ := id ha
  have h4 := zs_out_le e
  refine wq_C.of pn_X9 (Nat.le_of_ble_eq_true rfl) rfl (vX9_isPossible_0 (as_R0 ha (ai_n h1 o rfl (by omega) (by omega) ?_)))
  rw [h2 o ho]
  refine ⟨fun c => ⟨b2i_not fun q => nI_nle q hb c, rfl⟩, fun c => ⟨b2i_of ?_, rfl⟩⟩
  rcases Nat.eq_zero_or_pos (e.2.2.1 o) with q | q
  · rw [q] at c; exact absurd (by decide) c
  · exact q
theorem v_isPossible {a ta ca : Nat} {e : zs_E} (ha : as_at G h a ta ca e) {o : Nat} (ho : o < zs_out e) (hb : e.2.2.1 o < 2 ^ 31) (hd : 0 < d) {F : Int32 → wq_H → Nat → Nat → Prop} (k : F (b2i (decide (0 < e.2.2.1 o))) h C S) : (∃ fs : List Value, h a = some (.inr (8, fs)) ∧ wq_ci G l d C S mX9_isPossible [.ref a, .int (nI o)] h F) ∨ (∃ fs : List Value, h a = some (.inr (9, fs)) ∧ wq_ci G l d C S mX9_isPossible [.ref a, .int (nI o)] h F) :=
  as_v ha (fun _ => wq_ci.eq hd (c_isPossible ha ho hb) k) (fun _ _ => wq_ci.eq hd (c_isPossible ha ho hb) k)
/-- a table: its object, its list, its sets -/
def tb_at (G : wq_G) (h : wq_H) (t li ba : Nat) (sa ta ca : Nat → Nat) (T : zs_T) : Prop := h t = some (.inr (6, [.ref li])) ∧ al_at G h li ba ((List.range T.length).map sa) ∧ ∀ k, k < T.length → as_at G h (sa k) (ta k) (ca k) (zs_at T k)
theorem c_tsize {t li ba : Nat} {sa ta ca : Nat → Nat} {T : zs_T} (ht : tb_at G h t li ba sa ta ca T) : wq_C G l 1 0 0 mX7_size [.ref t] h (wq_qi fun x h' => x = nI T.length ∧ h' = h) := by
  obtain ⟨h1, h2, -⟩ := ht
  have h3 := c_size (l := l) h2
  rw [List.length_map, List.length_range] at h3
  obtain ⟨m, n, f, h4, -⟩ := h2
  exact wq_C.of pn_X7 (Nat.le_of_ble_eq_true rfl) rfl (vX7_size_0 (gR1 h1 rfl ⟨_, h4, wq_ci.eq (by decide) h3 ⟨rfl, rfl⟩⟩))
theorem c_tset {t li ba : Nat} {sa ta ca : Nat → Nat} {T : zs_T} (ht : tb_at G h t li ba sa ta ca T) {k : Nat} (hk : k < T.length) : wq_C G l 3 0 0 mX7_set [.ref t, .int (nI k)] h (wq_qq fun r h' => r = some (sa k) ∧ h' = h) := by
  obtain ⟨h1, h2, h3⟩ := ht
  have h5 := c_get (l := l) h2 (i := k) (x := sa k) (by simp [hk])
  obtain ⟨m, n, f, h4, -⟩ := h2
  refine wq_C.of pn_X7 (Nat.le_of_ble_eq_true rfl) rfl (vX7_set_0 (gR1 h1 rfl ⟨_, h4, wq_cq.eq (by decide) h5 ?_⟩))
  cases q : (zs_at T k).2.1 with
  | none => exact ⟨sa k, 8, _, rfl, by decide, as_8 (h3 k hk) q, rfl, rfl⟩
  | some b => exact ⟨sa k, 9, _, rfl, by decide, as_9 (h3 k hk) q, rfl, rfl⟩
end CP1
