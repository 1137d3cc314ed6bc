/-! CONTRACTS of the component: tables that are changed: add, flips, forgets; tables copied -/
set_option maxRecDepth 100000
/-- the cells that lists are made of -/
def lk (e : Option va_E) : Prop := (∃ fs : List Value, e = some (.inr (16, fs))) ∨ ∃ (c : ClassId) (n : Nat) (f : Nat → Option Nat), e = some (.inl (c, n, wq_ra f))
theorem al_j.kind {G : wq_G} {h : wq_H} {P : Nat → Prop} {a : Nat} {es : List Nat} {j : Nat} (k : al_j G h P a es j) : al_j G h (fun b => P b ∧ lk (h b)) a es j := by
  obtain ⟨m, ba, f, p1, p2, p3, p4, p5, p6, p7⟩ := k
  exact ⟨m, ba, f, ⟨p1, by rw [p2]; exact Or.inl ⟨_, rfl⟩⟩, p2, p3, p4, p5, p6, p7.imp id fun z => ⟨z.1, z.2, by rw [p3]; exact Or.inr ⟨_, _, _, rfl⟩⟩⟩
theorem as_nlk {G : wq_G} {h : wq_H} {a ta ca : Nat} {e : zs_E} (k : as_at G h a ta ca e) : ¬ lk (h a) ∧ ¬ lk (h ta) ∧ ¬ lk (h ca) := by
  obtain ⟨k1, ⟨f, k2, -⟩, g, k3, -⟩ := k
  rw [k1, k2, k3]
  refine ⟨?_, ?_, ?_⟩
  · unfold as_obj
    cases e.2.1 <;> rintro (⟨fs, q⟩ | ⟨c, n, f, q⟩) <;> cases q
  · rintro (⟨fs, q⟩ | ⟨c, n, f, q⟩) <;> cases q
  · rintro (⟨fs, q⟩ | ⟨c, n, f, q⟩) <;> cases q
/-- a table with its addresses -/
def tzx (G : wq_G) (h : wq_H) (P : Nat → Prop) (t li j : Nat) (sa ta ca : Nat → Nat) (T : zs_T) : Prop := P t ∧ h t = some (.inr (6, [.ref li])) ∧ al_j G h P li ((List.range T.length).map sa) j ∧ (∀ k, k < T.length → P (sa k) ∧ P (ta k) ∧ P (ca k) ∧ as_at G h (sa k) (ta k) (ca k) (zs_at T k)) ∧ ∀ i k, i < T.length → k < T.length → (ta i = ta k → i = k) ∧ (ca i = ca k → i = k) ∧ ta i ≠ ca k
theorem tz_x {G : wq_G} {h : wq_H} {P : Nat → Prop} {t : Nat} {T : zs_T} : tz G h P t T ↔ ∃ li j sa ta ca, tzx G h P t li j sa ta ca T := Iff.rfl
theorem tzx.at {G : wq_G} {h : wq_H} {P : Nat → Prop} {t li j : Nat} {sa ta ca : Nat → Nat} {T : zs_T} (k : tzx G h P t li j sa ta ca T) : ∃ ba, tb_at G h t li ba sa ta ca T := by
  obtain ⟨p1, p2, p3, p4, p5⟩ := k
  obtain ⟨ba, p3⟩ := p3.at
  exact ⟨ba, p2, p3, fun k hk => (p4 k hk).2.2.2⟩
theorem sets_at {T : zs_T} {k i : Nat} {e : zs_E} (hk : k < T.length) : zs_at (T.set k e) i = if i = k then e else zs_at T i := by
  unfold zs_at
  by_cases c : i = k
  · rw [if_pos c, c, List.getElem?_set_self hk]; rfl
  · rw [if_neg c, List.getElem?_set_ne (fun q => c q.symm)]
/-- a set's arrays changed -/
theorem tzx.upd {G : wq_G} {h h' : wq_H} {P : Nat → Prop} {t li j : Nat} {sa ta ca : Nat → Nat} {T : zs_T} (k : tzx G h P t li j sa ta ca T) (hk : kon G h') {i : Nat} (hi : i < T.length) {e : zs_E} (ha : as_at G h' (sa i) (ta i) (ca i) e) (q : hx (fun b => b = ta i ∨ b = ca i) h h') : tzx G h' P t li j sa ta ca (T.set i e) := by
  obtain ⟨p1, p2, p3, p4, p5⟩ := k
  have nl := as_nlk (p4 i hi).2.2.2
  have hl : (T.set i e).length = T.length := List.length_set ..
  refine ⟨p1, q.1 _ _ ?_ p2, ?_, fun k hk => ?_, by rw [hl]; exact p5⟩
  · obtain ⟨-, ⟨f, f1, -⟩, g, g1, -⟩ := (p4 i hi).2.2.2
    rintro (rfl | rfl)
    · rw [p2] at f1; cases f1
    · rw [p2] at g1; cases g1
  · rw [hl]
    refine (p3.kind.frame hk fun b e hb he => q.1 b e ?_ he).mono fun b hb => hb.1
    rintro (rfl | rfl)
    · exact nl.2.1 hb.2
    · exact nl.2.2 hb.2
  · rw [hl] at hk
    rw [sets_at hi]
    by_cases c : k = i
    · rw [if_pos c, c]
      exact ⟨(p4 i hi).1, (p4 i hi).2.1, (p4 i hi).2.2.1, ha⟩
    · rw [if_neg c]
      obtain ⟨g1, g2, g3, g4⟩ := p4 k hk
      refine ⟨g1, g2, g3, g4.hx q ?_ ?_ ?_⟩
      · obtain ⟨k1, -, -⟩ := g4
        obtain ⟨-, ⟨f, f1, -⟩, g, g1, -⟩ := (p4 i hi).2.2.2
        rintro (z | z)
        · rw [z, f1] at k1; cases k1
        · rw [z, g1] at k1; cases k1
      · rintro (z | z)
        · exact c ((p5 k i hk hi).1 z)
        · exact (p5 k i hk hi).2.2 z
      · rintro (z | z)
        · exact (p5 i k hi hk).2.2 z.symm
        · exact c ((p5 k i hk hi).2.1 z)
theorem as_ct {G : wq_G} {h : wq_H} {a ta ca : Nat} {e : zs_E} (k : as_at G h a ta ca e) {F : Nat → Prop} (q : F a) : wq_ct h (some a) [8, 9] F := by
  cases z : e.2.1 with
  | none => exact ⟨a, 8, _, rfl, by decide, as_8 k z, q⟩
  | some b => exact ⟨a, 9, _, rfl, by decide, as_9 k z, q⟩
theorem al_at.hx {G : wq_G} {h h' : wq_H} {a ba : Nat} {es : List Nat} (k : al_at G h a ba es) (q : hx (fun _ => False) h h') : al_at G h' a ba es := by
  obtain ⟨m, n, f, p1, p2, p3⟩ := k
  exact ⟨m, n, f, q.1 _ _ id p1, q.1 _ _ id p2, p3⟩
theorem tb_at.hx {G : wq_G} {h h' : wq_H} {t li ba : Nat} {sa ta ca : Nat → Nat} {T : zs_T} (k : tb_at G h t li ba sa ta ca T) (q : hx (fun _ => False) h h') : tb_at G h' t li ba sa ta ca T :=
  ⟨q.1 _ _ id k.1, k.2.1.hx q, fun i hi => (k.2.2 i hi).hx q id id id⟩
theorem zs_app {T : zs_T} {e : zs_E} {k : Nat} : zs_at (T ++ [e]) k = if k < T.length then zs_at T k else if k = T.length then e else zs_at T k := by
  unfold zs_at
  by_cases c : k < T.length
  · rw [if_pos c, List.getElem?_append_left c]
  · rw [if_neg c]
    by_cases c2 : k = T.length
    · rw [if_pos c2, c2, List.getElem?_append_right (Nat.le_refl _), Nat.sub_self]; rfl
    · rw [if_neg c2, List.getElem?_eq_none (by simp; omega), List.getElem?_eq_none (by omega)]
section CP6
variable {G : wq_G} {l : Launch} {d C S : Nat} {h : wq_H} {P : Nat → Prop} {t li j : Nat} {sa ta ca : Nat → Nat} {T : zs_T} {L N : Nat}
/-- a set more -/
theorem u_push (hk : kon G h) (k : tzx G h P t li j sa ta ca T) (hP : ∀ b, P b → G.1 ≤ b) (h8 : T.length ≤ 8) {b tb cb : Nat} {e : zs_E} (ha : as_at G h b tb cb e) (n1 : ¬ P tb) (n2 : ¬ P cb) (n3 : tb ≠ cb) (hd : 6 < d) (hC : 1 ≤ C) (hS : 26 ≤ S) {F : Int32 → wq_H → Nat → Nat → Prop} (K : ∀ (h' : wq_H) (C' S' : Nat) (N : Nat → Prop), C - 1 ≤ C' → S - 26 ≤ S' → (∀ x, N x → nw G h x) → tz G h' (fun x => P x ∨ x = b ∨ x = tb ∨ x = cb ∨ N x) t (T ++ [e]) → hx (fun x => P x ∧ lk (h x)) h h' → F 1 h' C' S') : ∃ fs : List Value, h li = some (.inr (16, fs)) ∧ wq_ci G l d C S mJ2_add [.ref li, .ref b] h F := by
  obtain ⟨p1, p2, p3, p4, p5⟩ := k
  have p3' := p3
  obtain ⟨m, ba, f, q1, q2, -⟩ := p3'
  have hlen : ((List.range T.length).map sa).length = T.length := by simp
  refine ⟨_, q2, u_add p3.kind (fun b hb => hP b hb.1) (by rw [hlen]; omega) ?_ (as_ob ha) hd hC (by rw [hlen]; omega) fun h' C' S' N j' c1 c2 g1 g2 g3 => K h' C' S' N (by omega) (by rw [hlen] at c2; omega) g1 ?_ g3⟩
  · intro x hx
    simp only [List.mem_map, List.mem_range] at hx
    obtain ⟨i, hi, rfl⟩ := hx
    exact as_ob (p4 i hi).2.2.2
  · have lt : (T ++ [e]).length = T.length + 1 := by simp
    refine ⟨li, j', fun i => if i < T.length then sa i else b, fun i => if i < T.length then ta i else tb, fun i => if i < T.length then ca i else cb, Or.inl p1, g3.1 _ _ ?_ p2, ?_, fun i hi => ?_, fun i k hi hk => ?_⟩
    · rintro ⟨-, z⟩
      rw [p2] at z
      rcases z with ⟨fs, z⟩ | ⟨c, n, f, z⟩ <;> cases z
    · have e1 : (List.range T.length).map sa ++ [b] = (List.range (T ++ [e]).length).map (fun i => if i < T.length then sa i else b) := by
        refine range_eq (by simp) fun i hi => ?_
        rw [lt] at hi
        by_cases c : i < T.length
        · rw [if_pos c, List.getElem?_append_left (by simp; exact c)]
          simp [c]
        · obtain rfl : i = T.length := by omega
          rw [if_neg c, List.getElem?_append_right (by simp)]
          simp
      rw [← e1]
      exact g2.mono fun x hx => by
        rcases hx with z | z
        · exact Or.inl z.1
        · exact Or.inr (Or.inr (Or.inr (Or.inr z)))
    · rw [lt] at hi
      rw [zs_app]
      by_cases c : i < T.length
      · obtain ⟨w1, w2, w3, w4⟩ := p4 i c
        have nl := as_nlk w4
        rw [if_pos c]
        show (P (if i < T.length then sa i else b) ∨ _) ∧ (P (if i < T.length then ta i else tb) ∨ _) ∧ (P (if i < T.length then ca i else cb) ∨ _) ∧ as_at G h' (if i < T.length then sa i else b) (if i < T.length then ta i else tb) (if i < T.length then ca i else cb) _
        rw [if_pos c, if_pos c, if_pos c]
        exact ⟨Or.inl w1, Or.inl w2, Or.inl w3, w4.hx g3 (fun z => nl.1 z.2) (fun z => nl.2.1 z.2) (fun z => nl.2.2 z.2)⟩
      · have ei : i = T.length := by omega
        have nl := as_nlk ha
        rw [if_neg c, if_pos ei]
        show (P (if i < T.length then sa i else b) ∨ (if i < T.length then sa i else b) = b ∨ _) ∧ (P (if i < T.length then ta i else tb) ∨ (if i < T.length then ta i else tb) = b ∨ (if i < T.length then ta i else tb) = tb ∨ _) ∧ (P (if i < T.length then ca i else cb) ∨ (if i < T.length then ca i else cb) = b ∨ (if i < T.length then ca i else cb) = tb ∨ (if i < T.length then ca i else cb) = cb ∨ _) ∧ as_at G h' (if i < T.length then sa i else b) (if i < T.length then ta i else tb) (if i < T.length then ca i else cb) _
        rw [if_neg c, if_neg c, if_neg c]
        exact ⟨Or.inr (Or.inl rfl), Or.inr (Or.inr (Or.inl rfl)), Or.inr (Or.inr (Or.inr (Or.inl rfl))), ha.hx g3 (fun z => nl.1 z.2) (fun z => nl.2.1 z.2) (fun z => nl.2.2 z.2)⟩
    · rw [lt] at hi hk
      show ((if i < T.length then ta i else tb) = (if k < T.length then ta k else tb) → i = k) ∧ ((if i < T.length then ca i else cb) = (if k < T.length then ca k else cb) → i = k) ∧ (if i < T.length then ta i else tb) ≠ (if k < T.length then ca k else cb)
      by_cases c : i < T.length <;> by_cases c2 : k < T.length
      · rw [if_pos c, if_pos c2, if_pos c, if_pos c2]; exact p5 i k c c2
      · rw [if_pos c, if_neg c2, if_pos c, if_neg c2]
        refine ⟨fun z => ?_, fun z => ?_, fun z => ?_⟩
        · exact absurd (by rw [← z]; exact (p4 i c).2.1) n1
        · exact absurd (by rw [← z]; exact (p4 i c).2.2.1) n2
        · exact n2 (by rw [← z]; exact (p4 i c).2.1)
      · rw [if_neg c, if_pos c2, if_neg c, if_pos c2]
        refine ⟨fun z => ?_, fun z => ?_, fun z => ?_⟩
        · exact absurd (by rw [z]; exact (p4 k c2).2.1) n1
        · exact absurd (by rw [z]; exact (p4 k c2).2.2.1) n2
        · exact n1 (by rw [z]; exact (p4 k c2).2.2.1)
      · rw [if_neg c, if_neg c2, if_neg c, if_neg c2]
        exact ⟨fun _ => by omega, fun _ => by omega, n3⟩
/-- a table copied, with coins or without -/
theorem c_tcopy {ba : Nat} (hk : kon G h) (ht : tb_at G h t li ba sa ta ca T) (hz : ∀ k, k < T.length → G.1 ≤ ta k ∧ G.1 ≤ ca k) (h8 : T.length ≤ 8) (c : Int32) : wq_C G l 7 40 400 mX7_copy [.ref t, .int c] h (wq_qq fun r h' => ∃ t', r = some t' ∧ tz G h' (nw G h) t' (T.map (zs_cp c)) ∧ hx (fun _ => False) h h') := by
  refine wq_C.of pn_X7 (Nat.le_of_ble_eq_true rfl) rfl (vX7_copy_0 ⟨by omega, by omega, fun t' ht' zt' => wq_cw.use (by decide) (by omega) (by omega) (c_tinit ?_ wq_set_eq zt') ?_⟩)
  · obtain ⟨z, f, hk⟩ := hk
    exact ⟨z, f, by rw [wq_set_ne (by omega)]; exact hk⟩
  rintro h1 ⟨li', g1, g2, g3, g4⟩
  have x1 : hx (fun _ => False) h h1 := (hx.set (Or.inr ht')).trans g4 (fun b hb => Or.inr (by rw [hb]; exact ht'))
  have gl : nw G h li' := nw_up (hx.set (P := fun _ => False) (Or.inr ht')) _ g1
  have tz1 : tz G h1 (nw G h) t' ((T.take 0).map (zs_cp c)) := ⟨li', 0, fun _ => 0, fun _ => 0, fun _ => 0, ⟨ht', zt'⟩, g2, (g3.mono fun b hb => by rw [hb]; exact gl), fun k hk => by simp at hk, fun i k hi => by simp at hi⟩
  refine down (P := fun k => ∀ (h1 : wq_H) (C S : Nat), (8 - k) * 4 ≤ C → (8 - k) * 40 ≤ S → tz G h1 (nw G h) t' ((T.take k).map (zs_cp c)) → hx (fun _ => False) h h1 → wq_T G l 7 mX7_copy (wq_qq fun r h' => ∃ t', r = some t' ∧ tz G h' (nw G h) t' (T.map (zs_cp c)) ∧ hx (fun _ => False) h h') 10 [some (.ref t), some (.int c), some (.ref t'), some (.int (nI k))] [] h1 C S) (n := T.length) ?_ ?_ h1 _ _ (by omega) (by omega) tz1 x1
  · intro h1 C S hC hS q1 q2
    have ht1 := ht.hx q2
    have hl := c_size (l := l) ht1.2.1
    rw [List.length_map, List.length_range] at hl
    obtain ⟨m, n, f, o1, -⟩ := id ht1.2.1
    refine vX7_copy_10 (gR1 ht1.1 rfl ⟨_, o1, wq_ci.eq (by decide) hl ⟨fun _ => ⟨t', rfl, ?_, q2⟩, fun c => absurd (Int32.le_refl _) c⟩⟩)
    rwa [List.take_length] at q1
  · intro k hkl ih h1 C S hC hS q1 q2
    have ht1 := ht.hx q2
    have hl := c_size (l := l) ht1.2.1
    rw [List.length_map, List.length_range] at hl
    obtain ⟨m, n, f, o1, -⟩ := id ht1.2.1
    obtain ⟨li1, j1, sa1, ta1, ca1, tx⟩ := q1.live
    have hget := c_get (l := l) ht1.2.1 (i := k) (x := sa k) (by simp [hkl])
    have hk1 : kon G h1 := hk.hx q2 (fun _ z => z.elim)
    refine vX7_copy_10 (gR1 ht1.1 rfl ⟨_, o1, wq_ci.eq (by decide) hl ⟨fun c => ?_, fun _ => gR1 tx.2.1 rfl (gR1 ht1.1 rfl ⟨_, o1, wq_cq.eq (by decide) hget (as_ct (ht1.2.2 k hkl) (v_acopy (ht1.2.2 k hkl) (hz k hkl).1 (hz k hkl).2 c (by decide) (by omega) (by omega) ?_))⟩)⟩⟩)
    · rw [nI_leI (by omega) (by omega)] at c
      omega
    · rintro h2 b tb cb ⟨f1, f2, f3, f4, f5, f6⟩
      have tx2 : tzx G h2 (fun b => nw G h b ∧ h1 b ≠ none) t' li1 j1 sa1 ta1 ca1 ((T.take k).map (zs_cp c)) := by
        obtain ⟨p1, p2, p3, p4, p5⟩ := tx
        exact ⟨p1, f6.1 _ _ id p2, p3.frame (hk1.hx f6 fun _ z => z.elim) (fun b e _ he => f6.1 b e id he), fun i hi => ⟨(p4 i hi).1, (p4 i hi).2.1, (p4 i hi).2.2.1, (p4 i hi).2.2.2.hx f6 id id id⟩, p5⟩
      refine u_push (hk1.hx f6 fun _ z => z.elim) tx2 (fun b hb => hb.1.2) (by simp; omega) f5 (fun z => z.2 f2.1) (fun z => z.2 f3.1) f4 (by decide) (by omega) (by omega) fun h3 C' S' N c1 c2 w1 w2 w3 => ?_
      have u1 := nw_up (G := G) q2
      rw [nI_1]
      refine ih h3 C' S' (by omega) (by omega) ?_ ?_
      · rw [take_s hkl, List.map_append]
        refine w2.mono fun x hx => ?_
        rcases hx with z | z | z | z | z
        · exact z.1
        · rw [z]; exact u1 _ f1
        · rw [z]; exact u1 _ f2
        · rw [z]; exact u1 _ f3
        · exact u1 _ (nw_up f6 _ (w1 x z))
      · exact (q2.t f6).trans w3 fun b hb => Or.inr hb.1.1.1
theorem x_flp : ∀ o, o < 4 → ∀ b, b < 3 → nI o ^^^ nI b = nI (o ^^^ b) := fun o _ b _ => nI_xor o b
theorem by_8 {e : zs_E} {x : Nat} (q : e.2.1 = none) (hi : zs_isof e x = true) : zs_by e x = 1 := by
  simp only [zs_isof, q, reduceCtorEq, decide_false, Bool.or_false, decide_eq_true_eq] at hi
  simp [zs_by, q, hi]
theorem by_9 {e : zs_E} {x y : Nat} (q : e.2.1 = some y) (hi : zs_isof e x = true) : zs_by e x = if e.1 = x then 2 else 1 := by
  simp only [zs_isof, q, Option.some.injEq, Bool.or_eq_true, decide_eq_true_eq] at hi
  by_cases c : e.1 = x
  · simp [zs_by, q, c]
  · rcases hi with z | z
    · exact absurd z c
    · simp [zs_by, q, c, z]
theorem v_flipped {a ta ca : Nat} {e : zs_E} (ha : as_at G h a ta ca e) (h1 : e.1 < 6) {x o : Nat} (hx : x < 6) (hi : zs_isof e x = true) (ho : o < zs_out e) (hd : 0 < d) {F : Int32 → wq_H → Nat → Nat → Prop} (k : F (nI (o ^^^ zs_by e x)) h C S) : (∃ fs : List Value, h a = some (.inr (8, fs)) ∧ wq_ci G l d C S mX10_flipped [.ref a, .int (nI o), .int (nI x)] h F) ∨ (∃ fs : List Value, h a = some (.inr (9, fs)) ∧ wq_ci G l d C S mX11_flipped [.ref a, .int (nI o), .int (nI x)] h F) := by
  refine as_v ha (fun q => ?_) (fun b q => ?_)
  · rw [out_1 q] at ho
    refine wq_ci.eq hd (v := nI (o ^^^ zs_by e x)) (wq_C.of pn_X10 (Nat.le_of_ble_eq_true rfl) rfl (vX10_flipped_0 ⟨?_, rfl⟩)) k
    rw [by_8 q hi]
    obtain rfl | rfl : o = 0 ∨ o = 1 := by omega
    · rfl
    · rfl
  · have hb := by_9 q hi
    refine wq_ci.eq hd (v := nI (o ^^^ zs_by e x)) (wq_C.of pn_X11 (Nat.le_of_ble_eq_true rfl) rfl (vX11_flipped_0 (gI1 (as_9 ha q) rfl ⟨fun c => ⟨?_, rfl⟩, fun c => ⟨?_, rfl⟩⟩))) k
    · rw [nI_eq (by omega) (by omega)] at c
      rw [hb, if_neg (fun z => c z.symm)]
      exact nI_xor o 1
    · rw [nI_eq (by omega) (by omega)] at c
      rw [hb, if_pos c.symm]
      exact nI_xor o 2
/-- so much of an array is turned -/
def flo (g : Nat → Nat) (b o : Nat) : Nat → Nat := fun p => if p ^^^ b < o then g (p ^^^ b) else g p
theorem flo_s {g : Nat → Nat} {b o n : Nat} {f : Nat → Int32} (hf : ∀ p, p < n → f p = nI (flo g b o p)) : ∀ p, p < n → upd f (o ^^^ b) (nI (g o)) p = nI (flo g b (o + 1) p) := by
  intro p hp
  unfold upd
  by_cases c : p = o ^^^ b
  · rw [if_pos c, c, flo, if_pos (by rw [xx]; omega), xx]
  · rw [if_neg c, hf p hp]
    have : p ^^^ b ≠ o := fun z => c (by rw [← z, xx])
    unfold flo
    by_cases c2 : p ^^^ b < o
    · rw [if_pos c2, if_pos (by omega)]
    · rw [if_neg c2, if_neg (by omega)]
end CP6
