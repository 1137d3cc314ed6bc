/-! CONTRACTS of the component: machines, second -/
set_option maxRecDepth 100000
theorem cd.ext {G : wq_G} {h h' : wq_H} {Z : Nat → Nat → Prop} {x : Nat} {D : zs_D} (k : cd G h Z x D) (q : hx (fun _ => False) h h') : cd G h' Z x D := by
  obtain ⟨tp, pr, pa, fu, mk, bk, tb, k1, k2, k3, k4, k5, k6, k7⟩ := k
  have hf : ∀ i b e, Z i b → h b = some e → h' b = some e := fun i b e _ he => q.1 b e id he
  have hk := k2.hx q fun _ z => z.elim
  exact ⟨tp, pr, pa, fu, mk, bk, tb, k1.hx q, hk, k3, q.1 _ _ id k4, k5.frame (hf 7), k6.frame (hf 6), k7.frame hk fun i b e _ _ => hf i b e⟩
theorem hx0 {P : Nat → Prop} {h h' : wq_H} (q : hx (fun _ => False) h h') : hx P h h' := q.mono fun _ z => z.elim
section CP13
variable {G : wq_G} {l : Launch} {d C S : Nat} {h : wq_H} {Z : Nat → Nat → Prop} {P : Nat → Prop} {x : Nat} {D : zs_D} {L N : Nat} {B : zs_B}
theorem c_minit {a ru S : Nat} {v0 v1 v2 v3 : Value} (ha : h a = some (.inr (14, [v0, v1, v2, v3]))) (hz : G.1 ≤ a) : wq_C G l 1 2 36 mX16_init [.ref a, .ref ru, .int (nI S)] h (wq_qv fun h' => ∃ te ne, nw G h te ∧ nw G h ne ∧ te ≠ ne ∧ me_at G h' a ru S te ne (fun _ => none) ∧ hx (fun b => b = a) h h') := by
  refine wq_C.of pn_X16 (Nat.le_of_ble_eq_true rfl) rfl (vX16_init_0 (by decide) (na_n (n := 18) _ rfl rfl (by omega) (by omega) (by omega) fun te hte zte => ?_))
  have n1 : a ≠ te := by rintro rfl; rw [hte] at ha; cases ha
  refine pf1 (by rw [wq_set_ne n1]; exact ha) hz (by simp) (na_n (n := 18) _ rfl rfl (by omega) (by omega) (by omega) fun ne hne zne => ?_)
  have n2 : a ≠ ne := by rintro rfl; rw [wq_set_eq] at hne; cases hne
  rw [wq_set_ne n2.symm] at hne
  have n3 : ne ≠ te := by rintro rfl; rw [wq_set_eq] at hne; cases hne
  rw [wq_set_ne n3] at hne
  refine pf1 (by rw [wq_set_ne n2, wq_set_eq]) hz (by simp) (pf1 wq_set_eq hz (by simp) (pf1 wq_set_eq hz (by simp) ?_))
  have e0 : ∀ {h : wq_H} (e1 e2 e3 : va_E), wq_set (wq_set (wq_set h a e1) a e2) a e3 = wq_set h a e3 := fun e1 e2 e3 => by rw [wq_set_set, wq_set_set]
  rw [e0]
  have q0 : hx (fun b => b = a) h (wq_set (wq_set (wq_set h te (.inl (G.2.2.1 0, 18, .inl (fun _ => 0)))) a (.inr (14, [v0, v1, .ref te, v3]))) ne (.inl (G.2.2.1 0, 18, .inl (fun _ => 0)))) := by
    refine ((hx.set (P := fun b => b = a) (Or.inr hte)).t (hx.set (Or.inl rfl))).t (hx.set (Or.inr ?_))
    rw [wq_set_ne n2.symm, wq_set_ne n3]; exact hne
  refine down (P := fun i => ∀ h1, h1 a = some (.inr (14, [.ref ru, .int (nI S), .ref te, .ref ne])) → (∃ f g : Nat → Int32, h1 te = some (.inl (G.2.2.1 0, 18, .inl f)) ∧ h1 ne = some (.inl (G.2.2.1 0, 18, .inl g)) ∧ ∀ j, j < i → f j = -1 ∧ g j = -1) → hx (fun b => b = a) h h1 → wq_T G l 1 mX16_init (wq_qv fun h' => ∃ te ne, nw G h te ∧ nw G h ne ∧ te ≠ ne ∧ me_at G h' a ru S te ne (fun _ => none) ∧ hx (fun b => b = a) h h') 32 [some (.ref a), none, none, some (.int (nI i))] [] h1 0 0) (n := 18) ?_ ?_ _ wq_set_eq ?_ (q0.t (hx.set (Or.inl rfl)))
  · rintro h1 w1 ⟨f, g, w2, w3, w4⟩ w5
    refine vX16_init_32 (gR1 w1 rfl ⟨G.2.2.1 0, .int, (18, .inl f), by simp, w2, ⟨fun _ => ⟨te, ne, ⟨hte, zte⟩, ⟨hne, zne⟩, n3.symm, ⟨w1, f, g, w2, w3, fun k hk => ?_⟩, w5⟩, fun c => absurd (Int32.le_refl (nI 18)) c⟩⟩)
    unfold mk2
    exact w4 k hk
  · rintro i hi ih h1 w1 ⟨f, g, w2, w3, w4⟩ w5
    refine vX16_init_32 (gR1 w1 rfl ⟨G.2.2.1 0, .int, (18, .inl f), by simp, w2, ⟨fun c => ?_, fun _ => gR1 w1 rfl (si_n w2 zte i rfl hi (by omega) (gR1 (by rw [wq_set_ne n1]; exact w1) rfl (si_n (by rw [wq_set_ne n3]; exact w3) zne i rfl hi (by omega) ?_)))⟩⟩)
    · have c : nI 18 ≤ nI i := c
      rw [nI_leI (by omega) (by omega)] at c
      omega
    · rw [nI_1]
      refine ih _ (by rw [wq_set_ne n2, wq_set_ne n1]; exact w1) ⟨_, _, by rw [wq_set_ne n3.symm, wq_set_eq], wq_set_eq, fun j hj => ?_⟩ ((w5.trans (hx.set (P := fun b => b = te) (Or.inl rfl)) (fun b hb => Or.inr (by rw [hb]; exact hte))).trans (hx.set (P := fun b => b = ne) (Or.inl rfl)) (fun b hb => Or.inr (by rw [hb]; exact hne)))
      unfold upd
      by_cases c : j = i
      · rw [if_pos c, if_pos c]; exact ⟨rfl, rfl⟩
      · rw [if_neg c, if_neg c]; exact w4 j (by omega)
  · refine ⟨fun _ => 0, fun _ => 0, ?_, ?_, fun j hj => absurd hj (Nat.not_lt_zero _)⟩
    · rw [wq_set_ne n1.symm, wq_set_ne n3.symm, wq_set_ne n1.symm, wq_set_eq]
    · rw [wq_set_ne n2.symm, wq_set_eq]
/-- the machine with fewest states -/
def lm_e (G : wq_G) (h : wq_H) (B : zs_B) : Option Nat → wq_H → Prop := fun r h' => hx (fun _ => False) h h' ∧ match zs_mach B with
  | some q => ∃ a ru te ne, r = some a ∧ G.1 ≤ a ∧ me_at G h' a ru q.1 te ne q.2 ∧ mok q.2
  | none => r = none
theorem c_leastMachine (k : cd G h Z x D) (dk : dok D) {K : zs_K} (e : D.2.2.2.2.2 = some K) : wq_C G l 120 9 120 mX1_leastMachine [.ref x] h (wq_qq (lm_e G h K.2.2.1)) := by
  have hB := (dk.2.2 K e).2.1
  have hL := (dk.2.2 K e).all.2.1
  have h4 := hB.2.2.2.2.2.1
  generalize hQ : wq_qq (lm_e G h K.2.2.1) = Q
  have one : ∀ S h1 C1 S1, 1 ≤ S → S ≤ 3 → 3 ≤ C1 → 40 ≤ S1 → hx (fun _ => False) h h1 → (∀ a ru te ne h2 M, hx (fun _ => False) h h2 → mcR S K.2.2.1.2.2.2 (fun _ => none) = some M → G.1 ≤ a → me_at G h2 a ru S te ne M → mok M → lm_e G h K.2.2.1 (some a) h2) → (∀ h2, hx (fun _ => False) h h2 → mcR S K.2.2.1.2.2.2 (fun _ => none) = none → wq_T G l 120 mX1_leastMachine Q 2 [some (.ref x), some (.int (nI (S + 1))), none] [] h2 (C1 - 3) (S1 - 40)) → wq_T G l 120 mX1_leastMachine Q 2 [some (.ref x), some (.int (nI S)), none] [] h1 C1 S1 := by
    intro S h1 C1 S1 hS1 hS hC hSS q1 yes no
    subst hQ
    refine vX1_leastMachine_2 ⟨fun c => ?_, fun _ => ⟨by omega, by omega, fun a ha za => ?_⟩⟩
    · rw [nI_lit 3, nI_ltI (by omega) (by omega)] at c
      omega
    · have q2 : hx (fun _ => False) h (wq_set h1 a (.inr (14, [.null, .int 0, .null, .null]))) := q1.t (hx.set (Or.inr ha))
      have k2 := k.ext q2
      obtain ⟨fs, b, hx2, h5, hb⟩ := k2.kb e
      have hk2 : kon G (wq_set h1 a (.inr (14, [.null, .int 0, .null, .null]))) := by obtain ⟨_, _, _, _, _, _, _, z⟩ := k2; exact z.2.1
      have hcz : cz G (wq_set h1 a (.inr (14, [.null, .int 0, .null, .null]))) Z := by obtain ⟨_, _, _, _, _, _, _, z⟩ := k2; exact z.1
      obtain ⟨-, t0, l0, r0, u0, hb5, hli, hra, hru⟩ := id hb
      refine gQ1 hx2 (x := some b) h5 ⟨b, rfl, gR1 hb5 rfl (wq_cw.use (by decide) (by omega) (by omega) (c_minit (ru := u0) (S := S) wq_set_eq za) ?_)⟩
      rintro h3 ⟨te, ne, n1, n2, n3, hm, q3⟩
      have ha0 : h a = none := by
        cases z : h a with
        | none => rfl
        | some e => rw [q1.1 _ _ id z] at ha; cases ha
      have q4 : hx (fun _ => False) h h3 := q2.trans q3 fun b hb => Or.inr (by rw [hb]; exact ha0)
      have hP : ∀ b, Z 1 b → G.1 ≤ b := fun b hb => (hcz.1 1 b hb).1
      have pz : ∀ b, Z 1 b → (wq_set h1 a (.inr (14, [.null, .int 0, .null, .null]))) b ≠ none := fun b hb => (hcz.1 1 b hb).2
      have k3 := k.ext q4
      have hf : ∀ b e, Z 1 b → (wq_set h1 a (.inr (14, [.null, .int 0, .null, .null]))) b = some e → h3 b = some e := by
        intro b e hb he
        refine q3.1 b e (fun z => ?_) he
        have k0 : cz G h Z := by obtain ⟨_, _, _, _, _, _, _, z⟩ := k; exact z.1
        exact (k0.1 1 b hb).2 (by rw [z]; exact ha0)
      have hk3 : kon G h3 := hk2.hx q3 fun b hb => by rw [hb]; exact za
      have hru3 : lo_at G h3 (Z 1) u0 (rn_at G h3 (Z 1)) K.2.2.1.2.2.2 := by
        refine hru.frame hk3 hf ?_
        rintro a q ⟨w1, la, aa, f, g, w2, w3, w4, w5, w6, w7⟩
        exact ⟨w1, la, aa, f, g, hf _ _ w1 w2, w3, w4, hf _ _ w3 w5, hf _ _ w4 w6, w7⟩
      have hm0 : mok (fun _ => none) := fun j e he => by cases he
      have gs := c_goes (G := G) (l := l) (a := a) (ru := u0) (S := S) (P := Z 1) (B := K.2.2.1) (L := K.1) hL hB hS n1.2 n2.2 n3 (fun z => pz te z n1.1) (fun z => pz ne z n2.1) hP 49
      have tn0 : h te = none := by
        cases z : h te with
        | none => rfl
        | some e => have := q2.1 _ _ id z; rw [n1.1] at this; cases this
      have nn0 : h ne = none := by
        cases z : h ne with
        | none => rfl
        | some e => have := q2.1 _ _ id z; rw [n2.1] at this; cases this
      have q5 : ∀ h4, hx (fun b => b = te ∨ b = ne) h3 h4 → hx (fun _ => False) h h4 := fun h4 z => q4.trans z fun b hb => Or.inr (by rcases hb with y | y <;> rw [y] <;> assumption)
      refine ⟨_, hm.1, ?_⟩
      by_cases hl : K.2.2.1.2.2.2.length = 0
      · have e0 : K.2.2.1.2.2.2 = [] := List.length_eq_zero_iff.mp hl
        have c := gs.1 h3 (fun _ => none) hk3 hru3 hm hm0
        rw [hl] at c
        refine wq_ci.use (by omega) (Nat.zero_le _) (Nat.zero_le _) c ?_
        rintro y h4 ⟨g1, rfl, g3, g4⟩
        exact ⟨fun c => absurd c (by decide), fun _ => yes a u0 te ne h4 _ (q5 h4 g1) (by rw [e0]; rfl) za g3 g4⟩
      · have c := gs.2 h3 (fun _ => none) 0 0 0 hk3 hru3 hm hm0 (by omega) (by omega) (by omega) (by omega)
        have e1 : mcC S (mcR S (K.2.2.1.2.2.2.drop (0 + 1))) ((zs_ru K.2.2.1 0).drop 0) 0 (fun _ => none) = mcR S K.2.2.1.2.2.2 (fun _ => none) := by
          have := ru_drop (B := K.2.2.1) (u := 0) (by omega)
          rw [List.drop_zero] at this
          rw [this, mcR]
          rfl
        rw [e1] at c
        refine wq_ci.use (by omega) (Nat.zero_le _) (Nat.zero_le _) c ?_
        rintro y h4 ⟨g1, g2⟩
        cases hq : mcR S K.2.2.1.2.2.2 (fun _ => none) with
        | some M =>
          rw [hq] at g2
          obtain ⟨rfl, g3, g4⟩ := g2
          exact ⟨fun c => absurd c (by decide), fun _ => yes a u0 te ne h4 M (q5 h4 g1) hq za g3 g4⟩
        | none =>
          rw [hq] at g2
          obtain ⟨rfl, g3⟩ := g2
          rw [nI_1]
          refine ⟨fun _ => (no h4 (q5 h4 g1) hq).room (by omega) (by omega), fun c => absurd rfl c⟩
  refine wq_C.of pn_X1 (Nat.le_of_ble_eq_true rfl) rfl ?_
  have r1 : wq_T G l 120 mX1_leastMachine Q 2 [some (.ref x), some (.int (nI 1)), none] [] h 9 120 := by
    refine one 1 h 9 120 (by omega) (by omega) (by omega) (by omega) hx.refl (fun a ru te ne h2 M q1 hm1 za g1 g2 => ⟨q1, ?_⟩) (fun h2 q1 hm1 => ?_)
    · rw [zs_mach, hm1]
      exact ⟨a, ru, te, ne, rfl, za, g1, g2⟩
    · refine one 2 h2 _ _ (by omega) (by omega) (by omega) (by omega) q1 (fun a ru te ne h3 M q2 hm2 za g1 g2 => ⟨q2, ?_⟩) (fun h3 q2 hm2 => ?_)
      · have e : zs_mach K.2.2.1 = some (2, M) := by rw [zs_mach, hm1]; simp only [hm2]
        rw [e]
        exact ⟨a, ru, te, ne, rfl, za, g1, g2⟩
      · refine one 3 h3 _ _ (by omega) (by omega) (by omega) (by omega) q2 (fun a ru te ne h4 M q3 hm3 za g1 g2 => ⟨q3, ?_⟩) (fun h4 q3 hm3 => ?_)
        · have e : zs_mach K.2.2.1 = some (3, M) := by rw [zs_mach, hm1]; simp only [hm2, hm3]
          rw [e]
          exact ⟨a, ru, te, ne, rfl, za, g1, g2⟩
        · subst hQ
          refine vX1_leastMachine_2 ⟨fun _ => ⟨q3, ?_⟩, fun c => absurd (by decide) c⟩
          simp only [zs_mach, hm1, hm2, hm3]
  subst hQ
  exact vX1_leastMachine_0 r1
theorem c_memory (k : cd G h Z x D) (dk : dok D) : wq_C G l 121 9 120 mX1_memory [.ref x] h (wq_qi (pk G Z x h (dk_t D (kT D)) (qK D (-1) fun K => match zs_mach K.2.2.1 with
    | some q => nI q.1
    | none => -2))) := by
  cases e : D.2.2.2.2.2 with
  | none =>
    rw [kT_n e, qK_n e]
    exact wq_C.of pn_X1 (Nat.le_of_ble_eq_true rfl) rfl (vX1_memory_0 (k.n e (none_k (u_refused k (by decide) (by decide) fun h' => pk_of))))
  | some K =>
    rw [kT_k e, qK_k e]
    obtain ⟨fs, b, hx1, h5, hb⟩ := k.kb e
    refine wq_C.of pn_X1 (Nat.le_of_ble_eq_true rfl) rfl (vX1_memory_0 (gQ1 hx1 (x := some b) h5 (some_k ⟨_, hx1, wq_cq.use (by decide) (Nat.le_refl _) (Nat.le_refl _) (c_leastMachine k dk e) ?_⟩)))
    rintro r h1 ⟨q1, q2⟩
    have k1 := k.ext q1
    cases z : zs_mach K.2.2.1 with
    | none =>
      rw [z] at q2
      subst q2
      exact none_k (u_well k1 (by decide) fun h' w1 w2 => pk_of w1 ((hx0 q1).t w2))
    | some q =>
      rw [z] at q2
      obtain ⟨a, ru, te, ne, rfl, za, g1, g2⟩ := q2
      exact some_k ⟨za, gI1 g1.1 rfl (u_well k1 (by decide) fun h' w1 w2 => pk_of w1 ((hx0 q1).t w2))⟩
/-- what the machine says of a state and a look -/
def zs_mtell (M : zs_M) (k : Nat) (z : Int32) : Int32 := match M k with
  | none => -2
  | some e => if z = 0 then nI e.1 else nI e.2
theorem c_machine (k : cd G h Z x D) (dk : dok D) (v w z : Int32) : wq_C G l 121 9 120 mX1_machine [.ref x, .int v, .int w, .int z] h (wq_qi (pk G Z x h (dk_t D (qK D 1 fun K => if inB w K.1 && inB v 3 then (match zs_mach K.2.2.1 with
    | some _ => 0
    | none => 6) else 1)) (qK D (-1) fun K => if inB w K.1 && inB v 3 then (match zs_mach K.2.2.1 with
    | some q => zs_mtell q.2 (6 * v.toNatClampNeg + w.toNatClampNeg) z
    | none => -1) else -1))) := by
  obtain ⟨tp, pr, pa, fu, mk, bk, tb, kx⟩ := id k
  have i3 : b2i (decide ((0 : Int32) ≤ v ∧ v ≤ 2)) = b2i (inB v 3) := by
    rw [← in_range (n := 3) (by omega)]; rfl
  refine wq_C.of pn_X1 (Nat.le_of_ble_eq_true rfl) rfl (vX1_machine_0 (wq_ci.eq (by decide) (c_in v 0 2) ?_))
  rw [i3]
  refine ⟨fun c => ?_, fun c => ⟨_, kx.2.2.2.1, wq_ci.eq (by decide) (c_isLook k dk w) ⟨fun c2 => ⟨_, kx.2.2.2.1, ?_⟩, fun c2 => ?_⟩⟩⟩
  · rw [b2i_0] at c
    have e1 : ∀ t : Int32, (qK D t fun K => if inB w K.1 && inB v 3 then (match zs_mach K.2.2.1 with
      | some _ => 0
      | none => 6) else 1) = (qK D t fun _ => 1) := fun t => by simp [c]
    simp only [c, Bool.and_false, Bool.false_eq_true, if_false]
    have e2 : (qK D 1 fun _ => 1) = 1 := by unfold qK; split <;> rfl
    have e3 : (qK D (-1) fun _ => -1) = -1 := by unfold qK; split <;> rfl
    rw [e2, e3]
    exact u_refused k (by decide) (by decide) fun h' => pk_of
  · rw [b2i_0, Bool.not_eq_false] at c c2
    cases e : D.2.2.2.2.2 with
    | none => rw [e] at c2; cases c2
    | some K =>
      rw [e] at c2
      have c2 : inB w K.1 = true := c2
      have hL := (dk.2.2 K e).all.2.1
      rw [qK_k e, qK_k e]
      simp only [c, c2, Bool.and_self, if_true]
      obtain ⟨i, hi, rfl⟩ := inB_of c
      obtain ⟨j, hj, rfl⟩ := inB_of c2
      rw [nI_clamp (by omega), nI_clamp (by omega)]
      refine wq_cq.use (by decide) (Nat.le_refl _) (Nat.le_refl _) (c_leastMachine k dk e) ?_
      rintro r h1 ⟨q1, q2⟩
      have k1 := k.ext q1
      cases zz : zs_mach K.2.2.1 with
      | none =>
        rw [zz] at q2
        subst q2
        exact none_k (u_refused k1 (by decide) (by decide) fun h' w1 w2 => pk_of w1 ((hx0 q1).t w2))
      | some q =>
        rw [zz] at q2
        obtain ⟨a, ru, te, ne, rfl, za, ⟨g1, f, g, g2, g3, g4⟩, g5⟩ := q2
        have ei : (6 : Int32) * nI i + nI j = nI (6 * i + j) := by rw [nI_lit 6, nI_mul, nI_add]
        have hb : 6 * i + j < 18 := by omega
        refine some_k ⟨za, gR1 g1 rfl (ai_n g2 (6 * i + j) ei hb (by omega) ?_)⟩
        have m := g4 _ hb
        cases hM : q.2 (6 * i + j) with
        | none =>
          obtain ⟨m1, m2⟩ := mk2_n m hM
          rw [m1]
          refine ⟨fun c => absurd rfl c, fun _ => ?_⟩
          have : zs_mtell q.2 (6 * i + j) z = -2 := by rw [zs_mtell, hM]
          dsimp only
          rw [this]
          exact u_well k1 (by decide) fun h' w1 w2 => pk_of w1 ((hx0 q1).t w2)
        | some e3 =>
          obtain ⟨m1, m2⟩ := mk2_s m hM
          obtain ⟨o1, o2⟩ := g5 _ _ hM
          rw [m1]
          have tell : zs_mtell q.2 (6 * i + j) z = if z = 0 then nI e3.1 else nI e3.2 := by rw [zs_mtell, hM]
          dsimp only
          rw [tell]
          refine ⟨fun _ => ⟨fun c3 => ⟨za, gR1 g1 rfl (ai_n g2 (6 * i + j) ei hb (by omega) ?_)⟩, fun c3 => ⟨za, gR1 g1 rfl (ai_n g3 (6 * i + j) ei hb (by omega) ?_)⟩⟩, fun c => absurd c (nI_ne1 (by omega))⟩
          · rw [m1, if_pos c3]
            exact u_well k1 (by decide) fun h' w1 w2 => pk_of w1 ((hx0 q1).t w2)
          · rw [m2, if_neg c3]
            exact u_well k1 (by decide) fun h' w1 w2 => pk_of w1 ((hx0 q1).t w2)
  · rw [b2i_0] at c2
    have e2 : (qK D 1 fun K => if inB w K.1 && inB v 3 then (match zs_mach K.2.2.1 with
      | some _ => 0
      | none => 6) else 1) = 1 := by
      unfold qK
      cases e : D.2.2.2.2.2 with
      | none => rfl
      | some K => rw [e] at c2; have c2 : inB w K.1 = false := c2; simp [c2]
    have e3 : (qK D (-1) fun K => if inB w K.1 && inB v 3 then (match zs_mach K.2.2.1 with
      | some q => zs_mtell q.2 (6 * v.toNatClampNeg + w.toNatClampNeg) z
      | none => -1) else -1) = -1 := by
      unfold qK
      cases e : D.2.2.2.2.2 with
      | none => rfl
      | some K => rw [e] at c2; have c2 : inB w K.1 = false := c2; simp [c2]
    rw [e2, e3]
    exact u_refused k (by decide) (by decide) fun h' => pk_of
end CP13
