/-! CONTRACTS of the component: tables that are ours; sets of looks and tables copied -/
set_option maxRecDepth 100000
/-- what is new since h -/
def nw (G : wq_G) (h : wq_H) : Nat → Prop := fun b => h b = none ∧ G.1 ≤ b
theorem nw_up {G : wq_G} {P : Nat → Prop} {h h' : wq_H} (k : hx P h h') : ∀ b, nw G h' b → nw G h b := by
  intro b hb
  refine ⟨?_, hb.2⟩
  cases q : h b with
  | none => rfl
  | some e =>
    have := k.2 b (by rw [q]; simp)
    exact absurd hb.1 this
theorem hx.no {P Q : Nat → Prop} {h h' : wq_H} (k : hx P h h') (q : ∀ a, P a → h a = none) : hx Q h h' :=
  ⟨fun a e _ ha => k.1 a e (fun z => by rw [q a z] at ha; cases ha) ha, k.2⟩
theorem kon.hx {G : wq_G} {P : Nat → Prop} {h h' : wq_H} (k : kon G h) (q : hx P h h') (hP : ∀ b, P b → G.1 ≤ b) : kon G h' := by
  obtain ⟨z, f, k⟩ := k
  exact ⟨z, f, q.1 _ _ (fun y => by have := hP _ y; omega) k⟩
theorem range_eq {es : List Nat} {sa : Nat → Nat} {n : Nat} (hl : es.length = n) (hk : ∀ k, k < n → es[k]? = some (sa k)) : es = (List.range n).map sa := by
  apply List.ext_getElem?
  intro i
  rw [List.getElem?_map]
  by_cases c : i < n
  · rw [hk i c, List.getElem?_range c]; rfl
  · rw [List.getElem?_eq_none (by omega), List.getElem?_eq_none (by simp; omega)]; rfl
theorem as_at.frame {G : wq_G} {h h' : wq_H} {a ta ca : Nat} {e : zs_E} (k : as_at G h a ta ca e) (h1 : h' a = h a) (h2 : h' ta = h ta) (h3 : h' ca = h ca) : as_at G h' a ta ca e := by
  unfold as_at at *
  rw [h1, h2, h3]
  exact k
theorem as_at.hx {G : wq_G} {P : Nat → Prop} {h h' : wq_H} {a ta ca : Nat} {e : zs_E} (k : as_at G h a ta ca e) (q : hx P h h') (h1 : ¬ P a) (h2 : ¬ P ta) (h3 : ¬ P ca) : as_at G h' a ta ca e := by
  obtain ⟨f1, f2⟩ := k.2
  obtain ⟨f, f1, -⟩ := f1
  obtain ⟨g, f2, -⟩ := f2
  refine k.frame ?_ ?_ ?_
  · rw [q.1 _ _ h1 k.1, k.1]
  · rw [q.1 _ _ h2 f1, f1]
  · rw [q.1 _ _ h3 f2, f2]
/-- a table that is ours: its cells are of P, its arrays apart -/
def tz (G : wq_G) (h : wq_H) (P : Nat → Prop) (t : Nat) (T : zs_T) : Prop := ∃ (li j : Nat) (sa ta ca : Nat → Nat), P t ∧ h t = some (.inr (6, [.ref li])) ∧ al_j G h P li ((List.range T.length).map sa) j ∧ (∀ k, k < T.length → P (sa k) ∧ P (ta k) ∧ P (ca k) ∧ as_at G h (sa k) (ta k) (ca k) (zs_at T k)) ∧ ∀ i k, i < T.length → k < T.length → (ta i = ta k → i = k) ∧ (ca i = ca k → i = k) ∧ ta i ≠ ca k
theorem tz.at {G : wq_G} {h : wq_H} {P : Nat → Prop} {t : Nat} {T : zs_T} (k : tz G h P t T) : ∃ li ba sa ta ca, tb_at G h t li ba sa ta ca T := by
  obtain ⟨li, j, sa, ta, ca, p1, p2, p3, p4, p5⟩ := k
  obtain ⟨ba, p3⟩ := p3.at
  exact ⟨li, ba, sa, ta, ca, p2, p3, fun k hk => (p4 k hk).2.2.2⟩
theorem as_live {G : wq_G} {h : wq_H} {a ta ca : Nat} {e : zs_E} (k : as_at G h a ta ca e) : h a ≠ none ∧ h ta ≠ none ∧ h ca ≠ none := by
  obtain ⟨k1, ⟨f, k2, -⟩, g, k3, -⟩ := k
  rw [k1, k2, k3]
  simp
theorem al_j.live {G : wq_G} {h : wq_H} {P : Nat → Prop} {a : Nat} {es : List Nat} {j : Nat} (k : al_j G h P a es j) : al_j G h (fun b => P b ∧ h b ≠ none) a es j := by
  obtain ⟨m, ba, f, p1, p2, p3, p4, p5, p6, p7⟩ := k
  exact ⟨m, ba, f, ⟨p1, by rw [p2]; simp⟩, p2, p3, p4, p5, p6, p7.imp id fun z => ⟨z.1, z.2, by rw [p3]; simp⟩⟩
theorem tz.live {G : wq_G} {h : wq_H} {P : Nat → Prop} {t : Nat} {T : zs_T} (k : tz G h P t T) : tz G h (fun b => P b ∧ h b ≠ none) t T := by
  obtain ⟨li, j, sa, ta, ca, p1, p2, p3, p4, p5⟩ := k
  refine ⟨li, j, sa, ta, ca, ⟨p1, by rw [p2]; simp⟩, p2, p3.live, fun k hk => ?_, p5⟩
  have q := p4 k hk
  have z := as_live q.2.2.2
  exact ⟨⟨q.1, z.1⟩, ⟨q.2.1, z.2.1⟩, ⟨q.2.2.1, z.2.2⟩, q.2.2.2⟩
theorem tz.mono {G : wq_G} {h : wq_H} {P Q : Nat → Prop} {t : Nat} {T : zs_T} (k : tz G h P t T) (q : ∀ b, P b → Q b) : tz G h Q t T := by
  obtain ⟨li, j, sa, ta, ca, p1, p2, p3, p4, p5⟩ := k
  exact ⟨li, j, sa, ta, ca, q _ p1, p2, p3.mono q, fun k hk => ⟨q _ (p4 k hk).1, q _ (p4 k hk).2.1, q _ (p4 k hk).2.2.1, (p4 k hk).2.2.2⟩, p5⟩
theorem tz.frame {G : wq_G} {h h' : wq_H} {P : Nat → Prop} {t : Nat} {T : zs_T} (k : tz G h P t T) (hk : kon G h') (hf : ∀ b e, P b → h b = some e → h' b = some e) : tz G h' P t T := by
  obtain ⟨li, j, sa, ta, ca, p1, p2, p3, p4, p5⟩ := k
  refine ⟨li, j, sa, ta, ca, p1, hf _ _ p1 p2, p3.frame hk hf, fun k hk => ?_, p5⟩
  obtain ⟨g1, g2, g3, g4⟩ := p4 k hk
  refine ⟨g1, g2, g3, ?_⟩
  obtain ⟨k1, ⟨f, k2, -⟩, g, k3, -⟩ := id g4
  exact g4.frame (by rw [hf _ _ g1 k1, k1]) (by rw [hf _ _ g2 k2, k2]) (by rw [hf _ _ g3 k3, k3])
theorem as_ob {G : wq_G} {h : wq_H} {a ta ca : Nat} {e : zs_E} (k : as_at G h a ta ca e) : ob h a := ⟨_, _, k.1⟩
theorem cpI_n {G : wq_G} {h : wq_H} {a0 a1 n0 n1 : Nat} {f g : Nat → Int32} {sp dp n : Int32} {F : wq_H → Prop} (x y N : Nat) (e0 : h a0 = some (.inl (G.2.2.1 0, n0, .inl f))) (e1 : h a1 = some (.inl (G.2.2.1 0, n1, .inl g))) (z0 : G.1 ≤ a0) (z1 : G.1 ≤ a1) (hs : sp = nI x) (hd : dp = nI y) (hn : n = nI N) (b0 : x + N ≤ n0) (b1 : y + N ≤ n1) (m0 : n0 < 2 ^ 31) (m1 : n1 < 2 ^ 31) (q : F (wq_set h a1 (.inl (G.2.2.1 0, n1, .inl (va_cpy f g x y N))))) : wq_cpI G h a0 sp a1 dp n F := by
  subst hs hd hn
  refine ⟨n0, f, n1, g, e0, e1, z0, z1, nI_pos (by omega), nI_pos (by omega), nI_pos (by omega), ?_, ?_, ?_⟩
  · rw [nI_clamp (by omega), nI_clamp (by omega)]; exact b0
  · rw [nI_clamp (by omega), nI_clamp (by omega)]; exact b1
  · rw [nI_clamp (by omega), nI_clamp (by omega), nI_clamp (by omega)]; exact q
abbrev z4 (G : wq_G) : va_E := .inl (G.2.2.1 0, 4, .inl (fun _ => 0))
/-- a set of looks with nothing on it -/
def zs_0 (e : zs_E) : zs_E := (e.1, e.2.1, fun _ => 0, fun _ => 0)
/-- without coins, or with -/
def zs_cp (c : Int32) (e : zs_E) : zs_E := (e.1, e.2.1, e.2.2.1, if c = 0 then fun _ => 0 else e.2.2.2)
/-- a set of looks newly made -/
def fa (G : wq_G) (h h' : wq_H) (a ta ca : Nat) (e : zs_E) : Prop := nw G h a ∧ nw G h ta ∧ nw G h ca ∧ ta ≠ ca ∧ as_at G h' a ta ca e ∧ hx (fun _ => False) h h'
section CP5
variable {G : wq_G} {l : Launch} {d C S : Nat} {h : wq_H} {P : Nat → Prop}
theorem c_X9init {a ci : Nat} {fs : List Value} (ha : h a = some (.inr (ci, fs))) (hci : ci = 8 ∨ ci = 9) (hl : 2 ≤ fs.length) (hz : G.1 ≤ a) : wq_C G l 1 2 8 mX9_init [.ref a] h (wq_qv fun h' => ∃ q1 q2, nw G h q1 ∧ nw G h q2 ∧ q1 ≠ q2 ∧ h' a = some (.inr (ci, (fs.set 0 (.ref q1)).set 1 (.ref q2))) ∧ h' q1 = some (z4 G) ∧ h' q2 = some (z4 G) ∧ hx (fun b => b = a) h h') := by
  refine wq_C.of pn_X9 (Nat.le_of_ble_eq_true rfl) rfl (vX9_init_0 (by decide) (na_n (n := 4) _ rfl rfl (by omega) (by omega) (by omega) fun q1 hq1 z1 => ?_))
  have n1 : a ≠ q1 := by rintro rfl; rw [hq1] at ha; cases ha
  have m0 : (ci, 0) ∈ [((8 : Nat), (0 : Nat)), (9, 0)] := by rcases hci with rfl | rfl <;> decide
  have m1 : (ci, 1) ∈ [((8 : Nat), (1 : Nat)), (9, 1)] := by rcases hci with rfl | rfl <;> decide
  refine ⟨ci, 0, fs, m0, by rw [wq_set_ne n1]; exact ha, hz, by omega, na_n (n := 4) _ rfl rfl (by omega) (by omega) (by omega) fun q2 hq2 z2 => ?_⟩
  have n2 : a ≠ q2 := by rintro rfl; rw [wq_set_eq] at hq2; cases hq2
  rw [wq_set_ne n2.symm] at hq2
  have n3 : q2 ≠ q1 := by rintro rfl; rw [wq_set_eq] at hq2; cases hq2
  refine ⟨ci, 1, fs.set 0 (.ref q1), m1, by rw [wq_set_ne n2, wq_set_eq], hz, by rw [List.length_set]; omega, ?_⟩
  rw [wq_set_ne n3] at hq2
  refine ⟨q1, q2, ⟨hq1, z1⟩, ⟨hq2, z2⟩, n3.symm, wq_set_eq, ?_, ?_, ?_⟩
  · rw [wq_set_ne n1.symm, wq_set_ne n3.symm, wq_set_ne n1.symm, wq_set_eq]
  · rw [wq_set_ne n2.symm, wq_set_eq]
  · refine (((hx.set (P := fun b => b = a) (Or.inr hq1)).t (hx.set (Or.inl rfl))).t (hx.set (Or.inr ?_))).t (hx.set (Or.inl rfl))
    rw [wq_set_ne n2.symm, wq_set_ne n3]; exact hq2
theorem c_X10init {a : Nat} {v0 v1 v2 : Value} (ha : h a = some (.inr (8, [v0, v1, v2]))) (hz : G.1 ≤ a) (x : Int32) : wq_C G l 2 2 8 mX10_init [.ref a, .int x] h (wq_qv fun h' => ∃ q1 q2, nw G h q1 ∧ nw G h q2 ∧ q1 ≠ q2 ∧ h' a = some (.inr (8, [.ref q1, .ref q2, .int x])) ∧ h' q1 = some (z4 G) ∧ h' q2 = some (z4 G) ∧ hx (fun b => b = a) h h') := by
  refine wq_C.of pn_X10 (Nat.le_of_ble_eq_true rfl) rfl (vX10_init_0 (wq_cw.use (by decide) (Nat.le_refl _) (Nat.le_refl _) (c_X9init ha (Or.inl rfl) (by simp) hz) ?_))
  rintro h' ⟨q1, q2, g1, g2, g3, g4, g5, g6, g7⟩
  have n1 : q1 ≠ a := by rintro rfl; rw [g4] at g5; cases g5
  have n2 : q2 ≠ a := by rintro rfl; rw [g4] at g6; cases g6
  exact pf1 g4 hz (by simp) ⟨q1, q2, g1, g2, g3, by rw [wq_set_eq]; rfl, by rw [wq_set_ne n1]; exact g5, by rw [wq_set_ne n2]; exact g6, g7.t (hx.set (Or.inl rfl))⟩
theorem c_X11init {a : Nat} {v0 v1 v2 v3 : Value} (ha : h a = some (.inr (9, [v0, v1, v2, v3]))) (hz : G.1 ≤ a) (x y : Int32) : wq_C G l 2 2 8 mX11_init [.ref a, .int x, .int y] h (wq_qv fun h' => ∃ q1 q2, nw G h q1 ∧ nw G h q2 ∧ q1 ≠ q2 ∧ h' a = some (.inr (9, [.ref q1, .ref q2, .int x, .int y])) ∧ h' q1 = some (z4 G) ∧ h' q2 = some (z4 G) ∧ hx (fun b => b = a) h h') := by
  refine wq_C.of pn_X11 (Nat.le_of_ble_eq_true rfl) rfl (vX11_init_0 (wq_cw.use (by decide) (Nat.le_refl _) (Nat.le_refl _) (c_X9init ha (Or.inr rfl) (by simp) hz) ?_))
  rintro h' ⟨q1, q2, g1, g2, g3, g4, g5, g6, g7⟩
  have n1 : q1 ≠ a := by rintro rfl; rw [g4] at g5; cases g5
  have n2 : q2 ≠ a := by rintro rfl; rw [g4] at g6; cases g6
  refine pf1 g4 hz (by simp) (pf1 wq_set_eq hz (by simp) ⟨q1, q2, g1, g2, g3, by rw [wq_set_eq]; rfl, ?_, ?_, ?_⟩)
  · rw [wq_set_ne n1, wq_set_ne n1]; exact g5
  · rw [wq_set_ne n2, wq_set_ne n2]; exact g6
  · exact (g7.t (hx.set (Or.inl rfl))).t (hx.set (Or.inl rfl))
/-- new, of one look; new, of two -/
theorem n_One {x : Nat} {q : Nat} (hq : h q = none) (hz : G.1 ≤ q) : wq_C G l 2 2 8 mX10_init [.ref q, .int (nI x)] (wq_set h q (.inr (8, [.null, .null, .int 0]))) (wq_qv fun h' => ∃ ta ca, fa G h h' q ta ca (x, none, fun _ => 0, fun _ => 0)) := by
  refine (c_X10init wq_set_eq hz (nI x)).mono ?_
  rintro r h' ⟨rfl, q1, q2, g1, g2, g3, g4, g5, g6, g7⟩
  have up : ∀ b, nw G (wq_set h q (.inr (8, [.null, .null, .int 0]))) b → nw G h b := nw_up (hx.set (P := fun _ => False) (Or.inr hq))
  exact ⟨rfl, q1, q2, ⟨hq, hz⟩, up _ g1, up _ g2, g3, ⟨g4, ⟨_, g5, fun _ _ => rfl⟩, _, g6, fun _ _ => rfl⟩, (hx.set (Or.inr hq)).trans g7 (fun b hb => Or.inr (by rw [hb]; exact hq))⟩
theorem n_Two {x y : Nat} {q : Nat} (hq : h q = none) (hz : G.1 ≤ q) : wq_C G l 2 2 8 mX11_init [.ref q, .int (nI x), .int (nI y)] (wq_set h q (.inr (9, [.null, .null, .int 0, .int 0]))) (wq_qv fun h' => ∃ ta ca, fa G h h' q ta ca (x, some y, fun _ => 0, fun _ => 0)) := by
  refine (c_X11init wq_set_eq hz (nI x) (nI y)).mono ?_
  rintro r h' ⟨rfl, q1, q2, g1, g2, g3, g4, g5, g6, g7⟩
  have up : ∀ b, nw G (wq_set h q (.inr (9, [.null, .null, .int 0, .int 0]))) b → nw G h b := nw_up (hx.set (P := fun _ => False) (Or.inr hq))
  exact ⟨rfl, q1, q2, ⟨hq, hz⟩, up _ g1, up _ g2, g3, ⟨g4, ⟨_, g5, fun _ _ => rfl⟩, _, g6, fun _ _ => rfl⟩, (hx.set (Or.inr hq)).trans g7 (fun b hb => Or.inr (by rw [hb]; exact hq))⟩
theorem c_fresh10 {a ta ca : Nat} {e : zs_E} (ha : as_at G h a ta ca e) (q : e.2.1 = none) : wq_C G l 3 3 12 mX10_fresh [.ref a] h (wq_qq fun r h' => ∃ b tb cb, r = some b ∧ fa G h h' b tb cb (zs_0 e)) := by
  refine wq_C.of pn_X10 (Nat.le_of_ble_eq_true rfl) rfl (vX10_fresh_0 ⟨by omega, by omega, fun b hb hz => ?_⟩)
  have n1 : a ≠ b := by rintro rfl; have z := ha.1; rw [hb] at z; cases z
  refine gI1 (by rw [wq_set_ne n1]; exact as_8 ha q) rfl (wq_cw.use (by decide) (by omega) (by omega) (n_One hb hz) ?_)
  rintro h' ⟨tb, cb, g⟩
  refine ⟨b, tb, cb, rfl, ?_⟩
  rw [zs_0, q]
  exact g
theorem c_fresh11 {a ta ca y : Nat} {e : zs_E} (ha : as_at G h a ta ca e) (q : e.2.1 = some y) : wq_C G l 3 3 12 mX11_fresh [.ref a] h (wq_qq fun r h' => ∃ b tb cb, r = some b ∧ fa G h h' b tb cb (zs_0 e)) := by
  refine wq_C.of pn_X11 (Nat.le_of_ble_eq_true rfl) rfl (vX11_fresh_0 ⟨by omega, by omega, fun b hb hz => ?_⟩)
  have n1 : a ≠ b := by rintro rfl; have z := ha.1; rw [hb] at z; cases z
  have q9 : (wq_set h b (.inr (9, [.null, .null, .int 0, .int 0]))) a = _ := (wq_set_ne n1).trans (as_9 ha q)
  refine gI1 q9 rfl (gI1 q9 rfl (wq_cw.use (by decide) (by omega) (by omega) (n_Two hb hz) ?_))
  rintro h' ⟨tb, cb, g⟩
  refine ⟨b, tb, cb, rfl, ?_⟩
  rw [zs_0, q]
  exact g
theorem c_acopy {a ta ca : Nat} {e : zs_E} (ha : as_at G h a ta ca e) (zt : G.1 ≤ ta) (zc : G.1 ≤ ca) (c : Int32) : wq_C G l 4 3 12 mX9_copy [.ref a, .int c] h (wq_qq fun r h' => ∃ b tb cb, r = some b ∧ fa G h h' b tb cb (zs_cp c e)) := by
  have lv := as_live ha
  generalize hK : (fun (r : Option Nat) (h' : wq_H) => ∃ b tb cb, r = some b ∧ fa G h h' b tb cb (zs_cp c e)) = K
  have fin : ∀ (r : Option Nat) (h1 : wq_H), (∃ b tb cb, r = some b ∧ fa G h h1 b tb cb (zs_0 e)) → wq_gR h1 a [(8, 0), (9, 0)] (fun a7 => ∃ a8, r = some a8 ∧ (wq_gR h1 a8 [(8, 0), (9, 0)] (fun a10 => wq_cpI G h1 a7 0 a10 0 4 (fun h11 => (c = 0 → K (some a8) h11) ∧ (¬ c = 0 → wq_gR h11 a [(8, 1), (9, 1)] (fun a12 => wq_gR h11 a8 [(8, 1), (9, 1)] (fun a13 => wq_cpI G h11 a12 0 a13 0 4 (fun h14 => K (some a8) h14)))))))) := by
    rintro r h1 ⟨b, tb, cb, rfl, f1, f2, f3, f4, f5, f6⟩
    have a1 : as_at G h1 a ta ca e := ha.hx f6 id id id
    obtain ⟨g1, ⟨f, g2, g3⟩, g, g4, g5⟩ := id a1
    obtain ⟨k1, ⟨f', k2, k3⟩, g', k4, k5⟩ := id f5
    have n1 : b ≠ tb := by rintro rfl; rw [k1] at k2; cases k2
    have n2 : b ≠ cb := by rintro rfl; rw [k1] at k4; cases k4
    have n3 : a ≠ tb := by rintro rfl; exact lv.1 f2.1
    have n4 : a ≠ cb := by rintro rfl; exact lv.1 f3.1
    have n5 : ca ≠ tb := by rintro rfl; exact lv.2.2 f2.1
    have h4 := zs_out_le e
    refine as_R0 a1 ⟨b, rfl, as_R0 f5 (cpI_n 0 0 4 g2 k2 zt f2.2 rfl rfl rfl (by omega) (by omega) (by omega) (by omega) ⟨fun c0 => ?_, fun c0 => ?_⟩)⟩
    · subst hK
      refine ⟨b, tb, cb, rfl, f1, f2, f3, f4, ⟨?_, ⟨_, wq_set_eq, fun o ho => ?_⟩, g', ?_, fun o ho => ?_⟩, f6.trans (hx.set (P := fun x => x = tb) (Or.inl rfl)) (fun x hx => Or.inr (by rw [hx]; exact f2.1))⟩
      · rw [wq_set_ne n1]; exact k1
      · have ho2 : o < zs_out e := ho
        show va_cpy f f' 0 0 4 o = _
        unfold va_cpy
        rw [if_pos (by omega), show 0 + (o - 0) = o by omega]
        exact g3 o ho2
      · rw [wq_set_ne f4.symm]; exact k4
      · rw [k5 o ho]
        simp [zs_cp, zs_0, c0]
    · have a2 : as_at G (wq_set h1 tb (.inl (G.2.2.1 0, 4, .inl (va_cpy f f' 0 0 4)))) a ta ca e := by
        have n6 : ta ≠ tb := by rintro rfl; exact lv.2.1 f2.1
        exact a1.frame (wq_set_ne n3) (wq_set_ne n6) (wq_set_ne n5)
      obtain ⟨w1, ⟨-, -, -⟩, u, w4, w5⟩ := id a2
      have b2 : as_at G (wq_set h1 tb (.inl (G.2.2.1 0, 4, .inl (va_cpy f f' 0 0 4)))) b tb cb (e.1, e.2.1, e.2.2.1, fun _ => 0) := by
        refine ⟨?_, ⟨_, wq_set_eq, fun o ho => ?_⟩, g', ?_, fun o ho => k5 o ho⟩
        · rw [wq_set_ne n1]; exact k1
        · have ho2 : o < zs_out e := ho
          show va_cpy f f' 0 0 4 o = _
          unfold va_cpy
          rw [if_pos (by omega), show 0 + (o - 0) = o by omega]
          exact g3 o ho2
        · rw [wq_set_ne f4.symm]; exact k4
      refine as_R1 a2 (as_R1 b2 (cpI_n 0 0 4 w4 (by rw [wq_set_ne f4.symm]; exact k4) zc f3.2 rfl rfl rfl (by omega) (by omega) (by omega) (by omega) ?_))
      subst hK
      refine ⟨b, tb, cb, rfl, f1, f2, f3, f4, ⟨?_, ⟨va_cpy f f' 0 0 4, ?_, fun o ho => ?_⟩, _, wq_set_eq, fun o ho => ?_⟩, (f6.trans (hx.set (P := fun x => x = tb) (Or.inl rfl)) (fun x hx => Or.inr (by rw [hx]; exact f2.1))).trans (hx.set (P := fun x => x = cb) (Or.inl rfl)) (fun x hx => Or.inr (by rw [hx]; exact f3.1))⟩
      · rw [wq_set_ne n2, wq_set_ne n1]; exact k1
      · rw [wq_set_ne f4, wq_set_eq]
      · have ho2 : o < zs_out e := ho
        unfold va_cpy
        rw [if_pos (by omega), show 0 + (o - 0) = o by omega]
        exact g3 o ho2
      · have ho2 : o < zs_out e := ho
        unfold va_cpy
        rw [if_pos (by omega), show 0 + (o - 0) = o by omega, w5 o ho2]
        simp [zs_cp, c0]
  refine wq_C.of pn_X9 (Nat.le_of_ble_eq_true rfl) rfl (vX9_copy_0 (by decide) (as_v ha (fun q => ?_) (fun b q => ?_)))
  · exact wq_cq.use (by decide) (Nat.le_refl _) (Nat.le_refl _) (c_fresh10 ha q) fin
  · exact wq_cq.use (by decide) (Nat.le_refl _) (Nat.le_refl _) (c_fresh11 ha q) fin
theorem v_acopy {a ta ca : Nat} {e : zs_E} (ha : as_at G h a ta ca e) (zt : G.1 ≤ ta) (zc : G.1 ≤ ca) (c : Int32) (hd : 4 < d) (hC : 3 ≤ C) (hS : 12 ≤ S) {F : Option Nat → wq_H → Nat → Nat → Prop} (k : ∀ h' b tb cb, fa G h h' b tb cb (zs_cp c e) → F (some b) h' (C - 3) (S - 12)) : (∃ fs : List Value, h a = some (.inr (8, fs)) ∧ wq_cq G l d C S mX9_copy [.ref a, .int c] h F) ∨ (∃ fs : List Value, h a = some (.inr (9, fs)) ∧ wq_cq G l d C S mX9_copy [.ref a, .int c] h F) := by
  have key : wq_cq G l d C S mX9_copy [.ref a, .int c] h F := by
    refine wq_cq.use hd hC hS (c_acopy ha zt zc c) ?_
    rintro r h' ⟨b, tb, cb, rfl, g⟩
    exact k h' b tb cb g
  exact as_v ha (fun _ => key) (fun _ _ => key)
/-- a new table -/
theorem c_tinit {t : Nat} {v : Value} (hk : kon G h) (ht : h t = some (.inr (6, [v]))) (hz : G.1 ≤ t) : wq_C G l 4 1 3 mX7_init [.ref t] h (wq_qv fun h' => ∃ li, nw G h li ∧ h' t = some (.inr (6, [.ref li])) ∧ al_j G h' (fun b => b = li) li [] 0 ∧ hx (fun b => b = t) h h') := by
  refine wq_C.of pn_X7 (Nat.le_of_ble_eq_true rfl) rfl (vX7_init_0 (by decide) ⟨by omega, by omega, fun li hl zl => wq_cw.use (by decide) (Nat.zero_le _) (Nat.zero_le _) (c_linit wq_set_eq zl) ?_⟩)
  rintro h' rfl
  have n1 : t ≠ li := by rintro rfl; rw [hl] at ht; cases ht
  rw [wq_set_set]
  have hk2 : kon G (wq_set (wq_set h li (.inr (16, [.int 0, .ref (G.2.2.2.2 0), .int 0]))) t (.inr (6, [.ref li]))) := by
    obtain ⟨z, f, hk⟩ := hk
    exact ⟨z, f, by rw [wq_set_ne (by omega), wq_set_ne (by omega)]; exact hk⟩
  have q1 : (wq_set h li (.inr (16, [.int 0, .ref (G.2.2.2.2 0), .int 0]))) t = some (.inr (6, [v])) := (wq_set_ne n1).trans ht
  refine pf1 q1 hz (by simp) ?_
  exact ⟨li, ⟨hl, zl⟩, wq_set_eq, al_new (m := 0) hk2 rfl (by rw [wq_set_ne n1.symm, wq_set_eq]), (hx.set (Or.inr hl)).t (hx.set (Or.inl rfl))⟩
end CP5
