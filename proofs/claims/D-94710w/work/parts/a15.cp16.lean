/-! CONTRACTS of the component: colours, third: a colouring made; what is asked of colours -/
set_option maxRecDepth 100000
theorem re2_off {B : zs_B} {t i : Nat} (h : t.testBit i = false) (n : Nat) : bs (re2 B t i) n = 0 := by
  refine Nat.eq_of_testBit_eq fun k => ?_
  rw [bs_bit, Nat.zero_testBit, re2, h]
  simp
theorem bs_0 (p : Nat → Bool) : bs p 0 = 0 := rfl
theorem bs_s {p : Nat → Bool} {n : Nat} : bs p (n + 1) = if p n = true then bs p n ||| 2 ^ n else bs p n := by
  refine Nat.eq_of_testBit_eq fun k => ?_
  by_cases c : p n = true
  · rw [if_pos c, Nat.testBit_or, bs_bit, bs_bit, Nat.testBit_two_pow]
    by_cases e : n = k
    · rw [← e]; simp [c]
    · have : (k < n + 1) ↔ k < n := by omega
      simp [e, this]
  · rw [if_neg c, bs_bit, bs_bit]
    by_cases e : n = k
    · rw [← e]; simp at c; simp [c]
    · have : (k < n + 1) ↔ k < n := by omega
      simp [this]
section CP16
variable {G : wq_G} {l : Launch} {d C S : Nat} {h : wq_H} {P Q : Nat → Prop} {L N : Nat} {B : zs_B}
theorem ry_frame {h' : wq_H} {a : Nat} {q : Nat → Int} (k : ry_at G h P a q) (hf : ∀ b e, P b → h b = some e → h' b = some e) : ry_at G h' P a q := by
  obtain ⟨w1, sa, f, w2, w3, w4, w5⟩ := k
  exact ⟨w1, sa, f, hf _ _ w1 w2, w3, hf _ _ w3 w4, w5⟩
theorem c_colinit {a b w : Nat} (hB : zs_bok L B) (ki : kin G h) (hk : kon G h) (hz : G.1 ≤ a) (ha : h a = some (.inr (13, [.int 0, .int 0, .null, .null, .int 0, .int 0]))) (hb : bk_at G h Q b L N B) (hQ : ∀ x, Q x → x ≠ a) (hQz : ∀ x, Q x → G.1 ≤ x) : wq_C G l 8 413 2054 mX15_init [.ref a, .ref b, .int (nI w)] h (wq_qv fun h' => ∃ (sq li : Nat) (f : Nat → Int32), h' a = some (.inr (13, co_l B.2.2.1.length (th B.2.2.1.length w) sq li 0 (-1))) ∧ h' sq = some (.inl (G.2.2.1 0, 18, .inl f)) ∧ (∀ i, i < B.2.2.1.length → f i = nI (sm2 B (th B.2.2.1.length w) i)) ∧ ci_at G h' (nw G h) li (cor2 B (th B.2.2.1.length w)) ∧ hx (fun x => x = a) h h') := by
  have h18 := hB.2.2.2.1
  have p18 := pow_9 h18
  have c400 := cor2_le hB (th B.2.2.1.length w)
  generalize hn : B.2.2.1.length = n at *
  generalize htt : th n w = t at *
  have ht : t < 2 ^ n := by rw [← htt]; exact th_lt
  obtain ⟨z400, z401, z402, z403, z404⟩ := cc_400
  refine wq_C.of pn_X15 (Nat.le_of_ble_eq_true rfl) rfl (vX15_init_0 (by decide) (na_n (n := 18) _ rfl rfl (by omega) (by omega) (by omega) fun sq hsq zsq => ?_))
  have n1 : a ≠ sq := by rintro rfl; rw [hsq] at ha; cases ha
  refine pf1 (by rw [wq_set_ne n1]; exact ha) hz (by simp) ⟨by omega, by omega, fun li hli zli => ?_⟩
  have n2 : a ≠ li := by rintro rfl; rw [wq_set_eq] at hli; cases hli
  rw [wq_set_ne n2.symm] at hli
  have n3 : li ≠ sq := by rintro rfl; rw [wq_set_eq] at hli; cases hli
  rw [wq_set_ne n3] at hli
  refine wq_cw.use (by decide) (Nat.zero_le _) (Nat.zero_le _) (c_linit wq_set_eq zli) ?_
  rintro h1 rfl
  rw [wq_set_set]
  refine pf1 (by rw [wq_set_ne n2, wq_set_eq]) hz (by simp) (pf1 wq_set_eq hz (by simp) ?_)
  rw [wq_set_set]
  -- the heap now
  generalize hh : wq_set (wq_set (wq_set (wq_set h sq (.inl (G.2.2.1 0, 18, .inl fun _ => 0))) a (.inr (13, [Value.int 0, Value.int 0, Value.null, Value.null, Value.int 0, Value.int 0].set 2 (.ref sq)))) li (.inr (16, [Value.int 0, Value.ref (G.2.2.2.2 0), Value.int 0]))) a (.inr (13, (([Value.int 0, Value.int 0, Value.null, Value.null, Value.int 0, Value.int 0].set 2 (.ref sq)).set 3 (.ref li)).set 5 (.int (-1)))) = h1
  have q1 : hx (fun x => x = a) h h1 := by
    rw [← hh]
    refine (((hx.set (P := fun x => x = a) (Or.inr hsq)).t (hx.set (Or.inl rfl))).t (hx.set (Or.inr ?_))).t (hx.set (Or.inl rfl))
    rw [wq_set_ne n2.symm, wq_set_ne n3]; exact hli
  have ha1 : h1 a = some (.inr (13, [.int 0, .int 0, .ref sq, .ref li, .int 0, .int (-1)])) := by rw [← hh, wq_set_eq]; rfl
  have hs1 : h1 sq = some (.inl (G.2.2.1 0, 18, .inl fun _ => 0)) := by rw [← hh, wq_set_ne n1.symm, wq_set_ne n3.symm, wq_set_ne n1.symm, wq_set_eq]
  have hl1 : h1 li = some (.inr (16, [.int 0, .ref (G.2.2.2.2 0), .int 0])) := by rw [← hh, wq_set_ne n2.symm, wq_set_eq]
  have hk1 : kon G h1 := hk.hx q1 fun x hx => by rw [hx]; exact hz
  have hci1 : ci_at G h1 (nw G h) li [] := ⟨[], al_new (m := 0) hk1 ⟨hli, zli⟩ hl1, rfl, fun k p v hk => by simp at hk⟩
  have fq : ∀ h2, hx (fun x => x = a) h h2 → ∀ b e, Q b → h b = some e → h2 b = some e := fun h2 q b e hb he => q.1 b e (hQ b hb) he
  have bk := fun h2 (q : hx (fun x => x = a) h h2) => hb.frame (hk.hx q fun x hx => by rw [hx]; exact hz) (fq h2 q)
  obtain ⟨-, t0, l0, r0, u0, hb5, hli5, hra5, -⟩ := id (bk h1 q1)
  refine gR1 hb5 rfl (lo_size hra5 (by decide) (pf1 ha1 hz (by simp) (gI1 wq_set_eq rfl (pf1 wq_set_eq hz (by simp) ?_))))
  rw [wq_set_set, hn, nI_shl (by omega), nI_sub1 Nat.one_le_two_pow, th_eq h18, htt]
  have q2 : hx (fun x => x = a) h (wq_set h1 a (.inr (13, co_l n t sq li 0 (-1)))) := q1.t (hx.set (Or.inl rfl))
  have hci2 := hci1.set13 (e := .inr (13, co_l n t sq li 0 (-1))) hk1 hz ha1
  generalize hK : (fun (h' : wq_H) => ∃ (sq li : Nat) (f : Nat → Int32), h' a = some (.inr (13, co_l n t sq li 0 (-1))) ∧ h' sq = some (.inl (G.2.2.1 0, 18, .inl f)) ∧ (∀ i, i < n → f i = nI (sm2 B t i)) ∧ ci_at G h' (nw G h) li (cor2 B t) ∧ hx (fun x => x = a) h h') = K
  -- the corners
  have corn : ∀ (f : Nat → Int32) h2 C S, h2 a = some (.inr (13, co_l n t sq li 0 (-1))) → h2 sq = some (.inl (G.2.2.1 0, 18, .inl f)) → (∀ i, i < n → f i = nI (sm2 B t i)) → ci_at G h2 (nw G h) li [] → hx (fun x => x = a) h h2 → 411 ≤ C → 2033 ≤ S → wq_T G l 8 mX15_init (wq_qv K) 162 [some (.ref a), none, none, some (.int 0), none] [] h2 C S := by
    intro f h2 C S g1 g2 g3 g4 g5 gC gS
    have al1 : ¬ lk (h2 a) := by rw [g1]; rintro (⟨f, z⟩ | ⟨c, n, f, z⟩) <;> cases z
    have sl1 : ¬ lk (h2 sq) := by rw [g2]; rintro (⟨f, z⟩ | ⟨c, n, f, z⟩) <;> cases z
    have ki2 : kin G h2 := ki.hx g5 fun x hx => by rw [hx]; exact hz
    have hk2 : kon G h2 := hk.hx g5 fun x hx => by rw [hx]; exact hz
    have hfe : ∀ i, i < n → f i = nI (bs (re2 B t i) n) := fun i hi => by rw [g3 i hi, sm2, hn]
    have fin : ∀ h3, hx (fun b => nw G h b ∧ lk (h2 b)) h2 h3 → hx (fun x => x = a) h h3 := fun h3 z => g5.trans z fun b hb => Or.inr hb.1.1
    have again : ∀ h3 h4, hx (fun b => nw G h b ∧ lk (h2 b)) h2 h3 → hx (fun b => nw G h b ∧ lk (h3 b)) h3 h4 → hx (fun b => nw G h b ∧ lk (h2 b)) h2 h4 := by
      intro h3 h4 z1 z2
      refine z1.trans z2 fun b hb => ?_
      cases z : h2 b with
      | none => exact Or.inr rfl
      | some y =>
        left
        refine ⟨hb.1, ?_⟩
        by_cases y2 : lk (h2 b)
        · rw [← z]; exact y2
        · rw [z1.1 b y (fun w => y2 w.2) z] at hb
          exact hb.2
    have hall : (cor2 B t) = cA (re2 B t) n n 0 := by rw [cor2, hn]; rfl
    generalize hcor : cor2 B t = all at *
    have outer : ∀ m i acc h3 C S, i + m = n → acc ++ cA (re2 B t) n m i = all → ci_at G h3 (nw G h) li acc → hx (fun b => nw G h b ∧ lk (h2 b)) h2 h3 → cc all.length - cc acc.length ≤ C → sc all.length - sc acc.length ≤ S → wq_T G l 8 mX15_init (wq_qv K) 162 [some (.ref a), none, none, some (.int (nI i)), none] [] h3 C S := by
      intro m
      induction m with
      | zero =>
        intro i acc h3 C S him hacc w1 w2 wC wS
        obtain rfl : i = n := by omega
        rw [cA, List.append_nil] at hacc
        have ha3 := w2.1 _ _ (fun z => al1 z.2) g1
        subst hK
        exact vX15_init_162 (gI1 ha3 rfl ⟨fun _ => ⟨sq, li, f, ha3, w2.1 _ _ (fun z => sl1 z.2) g2, g3, by rw [← hacc]; exact w1, fin h3 w2⟩, fun c => absurd (Int32.le_refl _) c⟩)
      | succ m ih =>
        intro i acc h3 C S him hacc w1 w2 wC wS
        have hin : i < n := by omega
        have ha3 := w2.1 _ _ (fun z => al1 z.2) g1
        rw [cA] at hacc
        have inner : ∀ m2 j acc h3 C S, j + m2 = n → acc ++ (cB (re2 B t) n i m2 j ++ cA (re2 B t) n m (i + 1)) = all → ci_at G h3 (nw G h) li acc → hx (fun b => nw G h b ∧ lk (h2 b)) h2 h3 → cc all.length - cc acc.length ≤ C → sc all.length - sc acc.length ≤ S → wq_T G l 8 mX15_init (wq_qv K) 175 [some (.ref a), none, none, some (.int (nI i)), some (.int (nI j))] [] h3 C S := by
          intro m2
          induction m2 with
          | zero =>
            intro j acc h3 C S hj hacc w1 w2 wC wS
            obtain rfl : j = n := by omega
            have ha3 := w2.1 _ _ (fun z => al1 z.2) g1
            rw [cB, List.nil_append] at hacc
            refine vX15_init_175 (gI1 ha3 rfl ⟨fun _ => ?_, fun c => absurd (Int32.le_refl _) c⟩)
            rw [nI_1]
            exact ih (i + 1) acc h3 C S (by omega) hacc w1 w2 wC wS
          | succ m2 ih2 =>
            intro j acc h3 C S hj hacc w1 w2 wC wS
            have hjn : j < n := by omega
            have ha3 := w2.1 _ _ (fun z => al1 z.2) g1
            have hs3 := w2.1 _ _ (fun z => sl1 z.2) g2
            rw [cB, List.append_assoc] at hacc
            have bl : bs (re2 B t i) n < 2 ^ 18 := Nat.lt_of_lt_of_le (bs_lt _ _) p18
            refine vX15_init_175 (gI1 ha3 rfl ⟨fun c => ?_, fun _ => gR1 ha3 rfl (ai_n hs3 i rfl (by omega) (by omega) ?_)⟩)
            · rw [nI_leI (by omega) (by omega)] at c
              omega
            rw [hfe i hin]
            refine wq_ci.eq (by decide) (c_has (by omega) (by omega)) ?_
            rw [b2i_0, bs_bit]
            simp only [hjn, decide_true, Bool.true_and]
            refine ⟨fun c => ?_, fun c => ⟨_, ha3, ?_⟩⟩
            · rw [if_neg (by rw [c]; decide), List.nil_append] at hacc
              rw [nI_1]
              exact ih2 (j + 1) acc h3 C S (by omega) hacc w1 w2 wC wS
            · rw [Bool.not_eq_false] at c
              rw [if_pos c] at hacc
              have tot : acc.length + (cC (re2 B t) n i j (n - (j + 1)) (j + 1)).length ≤ all.length := by
                rw [← hacc]; simp only [List.length_append]; omega
              have cl := cc_le (all.length - (acc.length + (cC (re2 B t) n i j (n - (j + 1)) (j + 1)).length)) (acc.length + (cC (re2 B t) n i j (n - (j + 1)) (j + 1)).length) (by omega)
              rw [show acc.length + (cC (re2 B t) n i j (n - (j + 1)) (j + 1)).length + (all.length - (acc.length + (cC (re2 B t) n i j (n - (j + 1)) (j + 1)).length)) = all.length by omega] at cl
              have cl2 := cc_le (cC (re2 B t) n i j (n - (j + 1)) (j + 1)).length acc.length (by omega)
              refine wq_cw.use (by decide) (by omega) (by omega) (c_findsCorners (ki2.hx w2 fun b hb => hb.1.2) (hk2.hx w2 fun b hb => hb.1.2) ha3 h18 hs3 hfe w1 (fun b hb => hb.2) (fun b hb => nw_up (fin h3 w2) b hb) hin hjn (by omega)) ?_
              rintro h4 ⟨y1, y2⟩
              rw [nI_1]
              have lap : (acc ++ cC (re2 B t) n i j (n - (j + 1)) (j + 1)).length = acc.length + (cC (re2 B t) n i j (n - (j + 1)) (j + 1)).length := List.length_append
              exact ih2 (j + 1) _ h4 _ _ (by omega) (by rw [← hacc, List.append_assoc]) y1 (again h3 h4 w2 y2) (by rw [lap]; omega) (by rw [lap]; omega)
        refine vX15_init_162 (gI1 ha3 rfl ⟨fun c => ?_, fun _ => ?_⟩)
        · rw [nI_leI (by omega) (by omega)] at c
          omega
        · rw [nI_1]
          exact inner (n - (i + 1)) (i + 1) acc h3 C S (by omega) (by rw [← hacc]) w1 w2 wC wS
    have cl := cc_le (400 - all.length) all.length (by omega)
    rw [show all.length + (400 - all.length) = 400 by omega] at cl
    exact outer n 0 [] h2 C S (by omega) (by rw [List.nil_append, hall]) g4 hx.refl (by rw [List.length_nil]; omega) (by rw [List.length_nil]; omega)
  -- which rays are square
  have rows : ∀ m i (f : Nat → Int32) h2, i + m = n → h2 a = some (.inr (13, co_l n t sq li 0 (-1))) → h2 sq = some (.inl (G.2.2.1 0, 18, .inl f)) → (∀ k, k < i → f k = nI (sm2 B t k)) → (∀ k, i ≤ k → k < 18 → f k = 0) → ci_at G h2 (nw G h) li [] → hx (fun x => x = a) h h2 → wq_T G l 8 mX15_init (wq_qv K) 57 [some (.ref a), some (.ref b), none, some (.int (nI i)), none] [] h2 411 2033 := by
    intro m
    induction m with
    | zero =>
      intro i f h2 him g1 g2 g3 g4 g5 g6
      obtain rfl : i = n := by omega
      exact vX15_init_57 (gI1 g1 rfl ⟨fun _ => corn f h2 411 2033 g1 g2 g3 g5 g6 (by omega) (by omega), fun c => absurd (Int32.le_refl _) c⟩)
    | succ m ih =>
      intro i f h2 him g1 g2 g3 g4 g5 g6
      have hin : i < n := by omega
      have cols : ∀ m2 j (f : Nat → Int32) h2, j + m2 = n → h2 a = some (.inr (13, co_l n t sq li 0 (-1))) → h2 sq = some (.inl (G.2.2.1 0, 18, .inl f)) → (∀ k, k < i → f k = nI (sm2 B t k)) → f i = nI (bs (re2 B t i) j) → (∀ k, i < k → k < 18 → f k = 0) → ci_at G h2 (nw G h) li [] → hx (fun x => x = a) h h2 → wq_T G l 8 mX15_init (wq_qv K) 68 [some (.ref a), some (.ref b), none, some (.int (nI i)), some (.int (nI j))] [] h2 411 2033 := by
        intro m2
        induction m2 with
        | zero =>
          intro j f h2 hj g1 g2 g3 g3b g4 g5 g6
          obtain rfl : j = n := by omega
          refine vX15_init_68 (gI1 g1 rfl ⟨fun _ => ?_, fun c => absurd (Int32.le_refl _) c⟩)
          rw [nI_1]
          refine ih (i + 1) f h2 (by omega) g1 g2 (fun k hk => ?_) (fun k hk => g4 k (by omega)) g5 g6
          by_cases e : k = i
          · rw [e, g3b, sm2, hn]
          · exact g3 k (by omega)
        | succ m2 ih2 =>
          intro j f h2 hj g1 g2 g3 g3b g4 g5 g6
          have hjn : j < n := by omega
          have skip : re2 B t i j = false → wq_T G l 8 mX15_init (wq_qv K) 68 [some (.ref a), some (.ref b), none, some (.int (nI i)), some (.int (nI j + 1))] [] h2 411 2033 := by
            intro c
            rw [nI_1]
            refine ih2 (j + 1) f h2 (by omega) g1 g2 g3 ?_ g4 g5 g6
            rw [bs_s, if_neg (by rw [c]; decide)]
            exact g3b
          obtain ⟨-, t0, l0, r0, u0, hb5, hli5, hra5, -⟩ := id (bk h2 g6)
          have hin' : i < B.2.2.1.length := by omega
          have hjn' : j < B.2.2.1.length := by omega
          refine vX15_init_68 (gI1 g1 rfl ⟨fun c => ?_, fun _ => ⟨fun c => skip ?_, fun c => gI1 g1 rfl (wq_ci.eq (by decide) (c_has (by omega) (by omega)) ⟨fun c2 => skip ?_, fun c2 => gI1 g1 rfl (wq_ci.eq (by decide) (c_has (by omega) (by omega)) ⟨fun c3 => skip ?_, fun c3 => gR1 hb5 rfl (lo_get hra5 (ra_get hin') (by decide) fun p hp => ⟨p, 11, _, rfl, by decide, hp.2.choose_spec.choose_spec.1, gR1 hb5 rfl (lo_get hra5 (ra_get hjn') (by decide) fun q hq => ⟨q, 11, _, rfl, by decide, hq.2.choose_spec.choose_spec.1, ⟨_, hp.2.choose_spec.choose_spec.1, wq_ci.eq (by decide) (c_isSquare hp hq (ra_ok hB hin') (ra_ok hB hjn')) ⟨fun c4 => skip ?_, fun c4 => gR1 g1 rfl (ai_n g2 i rfl (by omega) (by omega) (si_n g2 zsq i rfl (by omega) (by omega) ?_))⟩⟩⟩)⟩)⟩)⟩)⟩⟩)
          · rw [nI_leI (by omega) (by omega)] at c
            omega
          · rw [nI_eq (by omega) (by omega)] at c
            rw [← c, re2, re_self, Bool.false_and]
          · rw [b2i_0] at c2
            rw [re2, c2]; simp
          · rw [b2i_0] at c3
            rw [re2, c3]; simp
          · rw [b2i_0] at c4
            rw [re2, re, c4]; simp
          · rw [b2i_0, Bool.not_eq_false] at c2 c3 c4
            rw [nI_eq (by omega) (by omega)] at c
            have yes : re2 B t i j = true := by rw [re2, re, c2, c3, c4]; simp [c]
            rw [g3b, nI_shl (by omega), nI_or, nI_1]
            have a13 : ∀ e, (wq_set h2 sq e) a = some (.inr (13, co_l n t sq li 0 (-1))) := fun e => by rw [wq_set_ne n1]; exact g1
            refine ih2 (j + 1) _ _ (by omega) (a13 _) wq_set_eq (fun k hk => ?_) ?_ (fun k hk hk2 => ?_) ?_ (g6.trans (hx.set (P := fun x => x = sq) (Or.inl rfl)) (fun x z => Or.inr (by rw [z]; exact hsq)))
            · unfold upd; rw [if_neg (by omega)]; exact g3 k hk
            · unfold upd; rw [if_pos rfl, bs_s, if_pos yes]
            · unfold upd; rw [if_neg (by omega)]; exact g4 k hk hk2
            · obtain ⟨es, k1, k2, k3⟩ := g5
              have q9 : hx (fun x => x = sq) h2 (wq_set h2 sq (.inl (G.2.2.1 0, 18, .inl (upd f i (nI (bs (re2 B t i) j ||| 2 ^ j)))))) := hx.set (Or.inl rfl)
              refine ⟨es, (k1.kind.frame ((hk.hx g6 fun x hx => by rw [hx]; exact hz).hx q9 fun x hx => by rw [hx]; exact zsq) fun b e hb he => q9.1 b e (fun z => ?_) he).mono fun b hb => hb.1, k2, fun k p v h1 h2 => ?_⟩
              · rw [z, g2] at hb
                rcases hb.2 with ⟨f, y⟩ | ⟨c, n, f, y⟩ <;> cases y
              · simp at h2
      refine vX15_init_57 (gI1 g1 rfl ⟨fun c => ?_, fun _ => cols n 0 f h2 (by omega) g1 g2 g3 ?_ (fun k hk => g4 k (by omega)) g5 g6⟩)
      · rw [nI_leI (by omega) (by omega)] at c
        omega
      · rw [bs_0]
        exact g4 i (Nat.le_refl _) (by omega)
  have n1' : sq ≠ a := n1.symm
  exact (rows n 0 (fun _ => 0) _ (by omega) wq_set_eq (by rw [wq_set_ne n1']; exact hs1) (fun k hk => absurd hk (Nat.not_lt_zero _)) (fun k _ _ => rfl) hci2 q2).room (by omega) (by omega)
end CP16
