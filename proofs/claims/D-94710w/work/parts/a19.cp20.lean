/-! CONTRACTS of the component: measures, mixed, share, level -/
set_option maxRecDepth 100000
theorem tzx.frame {G : wq_G} {h h' : wq_H} {P : Nat → Prop} {t li j : Nat} {sa ta ca : Nat → Nat} {T : zs_T} (k : tzx G h P t li j sa ta ca T) (hk : kon G h') (hf : ∀ b e, P b → h b = some e → h' b = some e) : tzx G h' P t li j sa ta ca T := by
  obtain ⟨p1, p2, p3, p4, p5⟩ := k
  refine ⟨p1, hf _ _ p1 p2, p3.frame hk hf, fun k hk => ?_, p5⟩
  obtain ⟨g1, g2, g3, g4⟩ := p4 k hk
  refine ⟨g1, g2, g3, ?_⟩
  obtain ⟨k1, ⟨f, k2, -⟩, g, k3, -⟩ := id g4
  exact g4.frame (by rw [hf _ _ g1 k1, k1]) (by rw [hf _ _ g2 k2, k2]) (by rw [hf _ _ g3 k3, k3])
/-- the desk with its program in sight -/
def dp (G : wq_G) (h : wq_H) (x p b t li lb : Nat) (sa ta ca : Nat → Nat) (K : zs_K) : Prop := dv G h x b t li lb sa ta ca K ∧ ∃ fs : List Value, h x = some (.inr (0, fs)) ∧ fs[7]? = some (.ref p)
def pgx (G : wq_G) (h : wq_H) (p ce ba : Nat) : Prop := ∃ (m w0 W : Int32) (low : Int64) (f : Nat → Int64) (g : Nat → Int32), pgs G h p ce ba m w0 W low f g
def pd (G : wq_G) (h : wq_H) (Z : Nat → Nat → Prop) (x : Nat) (D : zs_D) (K : zs_K) (p ce ba b t li : Nat) (sa ta ca : Nat → Nat) : Prop := pgx G h p ce ba ∧ (∀ a, pz p ce ba a → own Z a) ∧ ∀ h', hx (pz p ce ba) h h' → (∃ lb, tb_at G h' t li lb sa ta ca K.2.2.2.1) ∧ (pgx G h' p ce ba → cd G h' Z x D ∧ ∃ lb, dp G h' x p b t li lb sa ta ca K)
theorem cd.pr {G : wq_G} {h : wq_H} {Z : Nat → Nat → Prop} {x : Nat} {D : zs_D} (k : cd G h Z x D) {K : zs_K} (e : D.2.2.2.2.2 = some K) : ∃ p ce ba b t li sa ta ca, pd G h Z x D K p ce ba b t li sa ta ca := by
  obtain ⟨tp, pr, pa, fu, mk, bk, tb, k1, k2, k3, k4, k5, k6, k7⟩ := k
  obtain ⟨w1, ce, ba, f, g, v2, v3, v4, v5, w2, w3, w4, w5, w6⟩ := id k6
  rw [e] at k7
  obtain ⟨⟨b, t, rfl, rfl, k8, k9⟩, -⟩ := id k7
  obtain ⟨li, j, sa, ta, ca, kt⟩ := tz_x.mp k9
  have zp : ∀ a, pz pr ce ba a → Z 6 a := by
    rintro a (rfl | rfl | rfl) <;> assumption
  refine ⟨pr, ce, ba, b, t, li, sa, ta, ca, ⟨v2, v3, v4, v5, f, g, ⟨(k1.1 6 _ w1).1, (k1.1 6 _ w3).1, (k1.1 6 _ w4).1⟩, w2, w5, w6⟩, fun a ha => ⟨6, zp a ha⟩, ?_⟩
  intro h' q
  have q6 : hx (Z 6) h h' := q.mono zp
  have hf : ∀ i b e, i ≠ 6 → Z i b → h b = some e → h' b = some e := fun i b e hi hb he => q6.1 b e (fun z => hi (k1.2 i 6 b hb z)) he
  have hk := k2.hx q6 fun b hb => (k1.1 6 b hb).1
  have kx := hf 8 _ _ (by decide) k3 k4
  have k9' := kt.frame hk fun b e => hf 2 b e (by decide)
  obtain ⟨lb, k9''⟩ := k9'.at
  have k8' := k8.frame hk fun b e => hf 1 b e (by decide)
  refine ⟨⟨lb, k9''⟩, ?_⟩
  rintro ⟨m, w0, W, low, f', g', q1⟩
  refine ⟨⟨tp, pr, pa, fu, mk, some b, some t, k1.hx q6, hk, k3, kx, k5.frame fun b e => hf 7 b e (by decide), ⟨w1, ce, ba, f', g', m, w0, W, low, q1.2.1, w3, w4, q1.2.2.1, q1.2.2.2⟩, ?_⟩, lb, ⟨⟨_, kx, rfl, rfl⟩, ?_, k9''⟩, _, kx, rfl⟩
  · rw [e]
    exact k7.frame hk fun i b e h1 h2 => hf i b e (by omega)
  · obtain ⟨-, t0, l0, r0, u0, k8', -⟩ := k8'
    exact ⟨_, _, _, _, k8'⟩
theorem lp_cost {L N : Nat} {T : zs_T} {aim : Nat → Int} {c : Nat} (hc : c ≤ 2 ^ L + lp_m T 1) : lp_A L N T 1 aim c (lp_m T 1) = if c < 2 ^ L then aim c else 0 := by
  by_cases q : c < 2 ^ L
  · rw [if_pos q, lp_aim q]
  · rw [if_neg q]
    by_cases e : c = 2 ^ L + lp_m T 1
    · rw [e, lp_rhs0]
    · have := lp_slack (L := L) (N := N) (T := T) (u := 1) (aim := aim) (r := c - 2 ^ L) (i := lp_m T 1) (by omega)
      rw [show 2 ^ L + (c - 2 ^ L) = c by omega, if_neg (by omega)] at this
      exact this
theorem first_iv {L N q : Nat} {T : zs_T} {aim : Nat → Int} {f : Nat → Nat → Int64} (h1 : ∀ r c, r < lp_m T 1 → c ≤ 2 ^ L + lp_m T 1 → f r c = jJ (lp_A L N T 1 lp_1 c r)) (h2 : ∀ c, c ≤ 2 ^ L + lp_m T 1 → f q c = jJ (if c < 2 ^ L then aim c else 0)) : lp_iv (lp_A L N T 1 aim) (lp_m T 1) (2 ^ L + lp_m T 1) (fun r => 2 ^ L + r) q f (jJ 1) := by
  have s := sx_first (lp_sl (L := L) (N := N) (T := T) (u := 1) (aim := aim))
  refine ⟨by rw [s.1], fun r c hr hc => ?_, fun c hc => ?_⟩
  · rw [s.2 r c (by omega), h1 r c hr hc, lp_A_aim hr]
  · rw [s.2 _ c (Nat.le_refl _), h2 c hc, lp_cost hc]
theorem lp_m33 {T : zs_T} (h8 : T.length ≤ 8) : 1 ≤ lp_m T 1 ∧ lp_m T 1 ≤ 33 := by
  have := lp_ro_le T T.length
  unfold lp_m; omega
section CP20
variable {G : wq_G} {l : Launch} {d C S : Nat} {h : wq_H} {Z : Nat → Nat → Prop} {x : Nat} {D : zs_D} {K : zs_K} {p ce ba b t li lb : Nat} {sa ta ca : Nat → Nat}
theorem dp.pr (V : dp G h x p b t li lb sa ta ca K) {F : Nat → Prop} (q : F p) : wq_gR h x [(0, 7)] F := by
  obtain ⟨-, fs, h1, h2⟩ := V
  exact gR1 h1 h2 q
theorem c_measures (P : pd G h Z x D K p ce ba b t li sa ta ca) (q : kok K) : wq_C G l 6 0 0 mX1_measures [.ref x] h (wq_qj fun y h' => hx (pz p ce ba) h h' ∧ ∃ z E : Int, zs_opt K.1 K.2.1 K.2.2.2.1 z E ∧ z.natAbs ≤ 18000000000 ∧ E.natAbs ≤ 100000000 ∧ y = jJ z ∧ ∃ m w0 W f g, pgs G h' p ce ba m w0 W (jJ E) f g) := by
  obtain ⟨hok, hL, hL1, hN, hN1⟩ := q.all
  have hp := pow_64 hL
  obtain ⟨m1, m2⟩ := lp_m33 hok.1
  obtain ⟨lb, V⟩ := ((P.2.2 h hx.refl).2 P.1).2
  obtain ⟨m0, w00, W0, low0, f0, g0, pg⟩ := P.1
  have bs := fun (aim : Nat → Int) ha => lp_bsA (N := K.2.1) (T := K.2.2.2.1) (u := 1) (aim := aim) hok hL (Nat.le_refl 1) hN ha m1
  have bs1 := bs lp_1 (fun _ _ => (by decide : (-1 : Int) * -1 ≤ 1))
  have bs2 := bs (fun _ => 0) (fun _ _ => (by decide : (0 : Int) * 0 ≤ 1))
  refine wq_C.of pn_X1 (Nat.le_of_ble_eq_true rfl) rfl (vX1_measures_0 (V.pr (V.1.tab (V.1.book ⟨b, rfl, V.1.hid hL (by decide) (V.1.book ⟨b, rfl, V.1.of ⟨_, pg.2.1, wq_cw.use (by decide) (Nat.zero_le _) (Nat.zero_le _) (c_lays (fun h' z => (P.2.2 h' z).1) hok hL hN pg) ?_⟩⟩)⟩))))
  rintro h1 ⟨g1, t1, c1, c2, c3, c4⟩
  have x1 : pgx G h1 p ce ba := by
    obtain ⟨-, f, k, -⟩ := id c1
    exact ⟨_, _, _, _, _, _, k⟩
  obtain ⟨lb1, V1⟩ := ((P.2.2 h1 c1.1).2 x1).2
  have iv1 := first_iv (L := K.1) (N := K.2.1) (q := lp_m K.2.2.2.1 1) (aim := lp_1) (f := t1) (fun r c hr hc => c3 r c (by omega) hc) (fun c hc => by rw [c3 _ c (Nat.le_refl _) hc, lp_cost hc])
  have iv2 := first_iv (L := K.1) (N := K.2.1) (q := lp_m K.2.2.2.1 1 + 1) (aim := fun _ => 0) (f := t1) (fun r c hr hc => c3 r c (by omega) hc) (fun c hc => by rw [c4 c (by omega), ite_self]; rfl)
  have sok := sx_first_ok (lp_sl (L := K.1) (N := K.2.1) (T := K.2.2.2.1) (u := 1) (aim := lp_1)) lp_A3
  have up : lp_up (lp_A K.1 K.2.1 K.2.2.2.1 1 lp_1) (lp_A K.1 K.2.1 K.2.2.2.1 1 lp_1) (lp_m K.2.2.2.1 1) (2 ^ K.1 + lp_m K.2.2.2.1 1) (lp_m K.2.2.2.1 1) (fun _ => true) (fun r => 2 ^ K.1 + r) t1 (jJ 1) := ⟨iv1, iv1, sok, fun e => absurd e (by omega)⟩
  refine V1.pr ?_
  obtain ⟨-, f1, k1, -⟩ := id c1
  refine ⟨_, k1.2.1, wq_cj.use (by decide) (Nat.zero_le _) (Nat.zero_le _) (c_most c1 m2 (by omega) false (Or.inl ⟨rfl, rfl, fun _ => rfl⟩) bs1 bs1 bs2 lp_A0 (fun c hc => lp_A2 (Or.inl rfl) hc) c2 up (fun _ => iv2)) ?_⟩
  rintro y h2 ⟨bb, low', g', t', e1, e2, e3, e4, e5, rfl⟩
  have ok2 := e3.2.2.1
  have op := lp_opt1 hok (Or.inl rfl) ok2 (fun c hc => e5 c hc rfl)
  refine ⟨e1.1, _, _, op, (bs1.2 bb ok2.2.1 _ (Nat.le_refl _)).2, bs1.D ok2.2.1, e3.1.2.2 _ (Nat.le_refl _), ?_⟩
  obtain ⟨-, f, k, -⟩ := e1
  rw [e3.1.1] at k
  exact ⟨_, _, _, _, _, k⟩
theorem c_isMixed (P : pd G h Z x D K p ce ba b t li sa ta ca) (q : kok K) : wq_C G l 7 0 0 mX1_isMixed [.ref x] h (wq_qi fun r h' => hx (pz p ce ba) h h' ∧ pgx G h' p ce ba ∧ ((zs_mix K.1 K.2.1 K.2.2.2.1 ∧ r = 1) ∨ (¬ zs_mix K.1 K.2.1 K.2.2.2.1 ∧ r = 0))) := by
  obtain ⟨hok, hL, hL1, hN, hN1⟩ := q.all
  obtain ⟨lb, V⟩ := ((P.2.2 h hx.refl).2 P.1).2
  obtain ⟨fs, hx1, -⟩ := V.2
  refine wq_C.of pn_X1 (Nat.le_of_ble_eq_true rfl) rfl (vX1_isMixed_0 ⟨_, hx1, wq_cj.use (by decide) (Nat.zero_le _) (Nat.zero_le _) (c_measures P q) ?_⟩)
  rintro y h1 ⟨w1, z, E, w2, w3, w4, rfl, m, w0, W, f, g, w5⟩
  have x1 : pgx G h1 p ce ba := ⟨_, _, _, _, _, _, w5⟩
  obtain ⟨lb1, V1⟩ := ((P.2.2 h1 w1).2 x1).2
  refine V1.1.book ⟨b, rfl, V1.1.of (V1.pr (gJ1 w5.2.1 rfl ?_))⟩
  have b3 := nab_mul (a := (K.2.1 : Int)) (P := 60) (by omega) w4
  rw [jJ_n (by omega), jJ_mul, lg_cmp_eq, jJ_inj (by omega) (by omega) (by omega) (by omega)]
  exact ⟨fun c => ⟨w1, x1, Or.inr ⟨fun y => c ((zs_mix_iff w2).mp y), rfl⟩⟩, fun c => ⟨w1, x1, Or.inl ⟨(zs_mix_iff w2).mpr c, rfl⟩⟩⟩
theorem c_share (k : cd G h Z x D) (dk : dok D) (c : Int32) : wq_C G l 7 0 0 mX1_share [.ref x, .int c] h (wq_qi fun r h' => ∃ v, (D.2.2.2.2.2 = none → v = -1) ∧ (∀ K, D.2.2.2.2.2 = some K → zs_frac K.2.1 (zs_opt K.1 K.2.1 K.2.2.2.1) c v) ∧ pk G Z x h (dk_t D (kT D)) v r h') := by
  cases e : D.2.2.2.2.2 with
  | none =>
    rw [kT_n e]
    exact wq_C.of pn_X1 (Nat.le_of_ble_eq_true rfl) rfl (vX1_share_0 (k.n e (none_k (u_refused k (by decide) (by decide) fun h' z1 z2 => ⟨-1, fun _ => rfl, fun K z => (by cases z), pk_of z1 z2⟩))))
  | some K =>
    rw [kT_k e]
    have q := dk.2.2 K e
    obtain ⟨hok, hL, hL1, hN, hN1⟩ := q.all
    obtain ⟨p, ce, ba, b, t, li, sa, ta, ca, P⟩ := k.pr e
    obtain ⟨lb, V⟩ := ((P.2.2 h hx.refl).2 P.1).2
    obtain ⟨fs, hx1, -⟩ := V.2
    refine wq_C.of pn_X1 (Nat.le_of_ble_eq_true rfl) rfl (vX1_share_0 (V.1.book (some_k ⟨_, hx1, wq_cj.use (by decide) (Nat.zero_le _) (Nat.zero_le _) (c_measures P q) ?_⟩)))
    rintro y h1 ⟨w1, z, E, w2, w3, w4, rfl, m, w0, W, f, g, w5⟩
    have x1 : pgx G h1 p ce ba := ⟨_, _, _, _, _, _, w5⟩
    obtain ⟨k1, lb1, V1⟩ := (P.2.2 h1 w1).2 x1
    refine V1.1.book ⟨b, rfl, V1.1.of (V1.pr (gJ1 w5.2.1 rfl ?_))⟩
    have b3 := nab_mul (a := (K.2.1 : Int)) (P := 60) (by omega) w4
    have hD := w2.1
    have hz := zs_opt_nn w2
    have hND : 0 < (K.2.1 : Int) * E := Int.mul_pos (by omega) hD
    rw [jJ_n (by omega), jJ_mul]
    have e1 : z = (z.toNat : Int) := by omega
    have e2 : (K.2.1 : Int) * E = (((K.2.1 : Int) * E).toNat : Int) := by omega
    rw [e1, e2]
    refine wq_ci.eq (by decide) (c_lowest (by omega) (by omega) (by omega) c) (u_well k1 (by decide) fun h' z1 z2 => ?_)
    exact ⟨_, fun z => (by cases z), fun K' z => (by cases z; exact ⟨_, _, w2, hD, hz, rfl⟩), pk_of z1 ((w1.mono P.2.1).t z2)⟩
def zpo (L : Nat) (T : zs_T) (q : Bool) (k o : Nat) : Bool := decide (0 < (zs_at T k).2.2.1 o) && (zs_ext L T k o == q)
def zpi (L : Nat) (T : zs_T) (q : Bool) (k o a : Nat) : Nat := fo (fun o a => if zpo L T q k o then a + 1 else a) o a
theorem zpi_s {L : Nat} {T : zs_T} {q : Bool} {k o a : Nat} : zpi L T q k (o + 1) a = if zpo L T q k o then zpi L T q k o a + 1 else zpi L T q k o a := rfl
def zps (L : Nat) (T : zs_T) (q : Bool) (k : Nat) : Nat := fo (fun k a => zpi L T q k (zs_out (zs_at T k)) a) k 0
theorem zps_s {L : Nat} {T : zs_T} {q : Bool} {k : Nat} : zps L T q (k + 1) = zpi L T q k (zs_out (zs_at T k)) (zps L T q k) := rfl
theorem zps_n {L : Nat} {T : zs_T} {q : Bool} : zs_some L T q = zps L T q T.length := rfl
theorem zpi_le {L : Nat} {T : zs_T} {q : Bool} {k a : Nat} : ∀ o, zpi L T q k o a ≤ a + o := by
  intro o
  induction o with
  | zero => exact Nat.le_refl _
  | succ o ih => rw [zpi_s]; split <;> omega
theorem zps_le {L : Nat} {T : zs_T} {q : Bool} : ∀ k, zps L T q k ≤ 4 * k := by
  intro k
  induction k with
  | zero => exact Nat.le_refl _
  | succ k ih =>
    have := zpi_le (L := L) (T := T) (q := q) (k := k) (a := zps L T q k) (zs_out (zs_at T k))
    have := zs_out_le (zs_at T k)
    rw [zps_s]; omega
theorem c_possible (k : cd G h Z x D) (dk : dok D) (e : D.2.2.2.2.2 = some K) (q : Bool) : wq_C G l 7 0 0 mX1_possible [.ref x, .int (b2i q)] h (wq_qi fun r h' => r = nI (zs_some K.1 K.2.2.2.1 q) ∧ h' = h) := by
  obtain ⟨b, t, li, ba, sa, ta, ca, V⟩ := k.k e
  have o6 := (dk.2.2 K e).all
  have h8 := o6.1.1
  have bi : ∀ a b : Bool, b2i a = b2i b ↔ a = b := by decide
  rw [zps_n]
  refine wq_C.of pn_X1 (Nat.le_of_ble_eq_true rfl) rfl (vX1_possible_0 ?_)
  refine down (P := fun k => wq_T G l 7 mX1_possible (wq_qi fun r h' => r = nI (zps K.1 K.2.2.2.1 q K.2.2.2.1.length) ∧ h' = h) 4 [some (.ref x), some (.int (b2i q)), some (.int (nI (zps K.1 K.2.2.2.1 q k))), some (.int (nI k)), none] [] h 0 0) (n := K.2.2.2.1.length) ?_ ?_
  · exact vX1_possible_4 (V.tab (u_size V.2.2 (by decide) ⟨fun _ => ⟨rfl, rfl⟩, fun c => absurd (Int32.le_refl _) c⟩))
  · intro i hi ih
    refine vX1_possible_4 (V.tab (u_size V.2.2 (by decide) ⟨fun c => ?_, fun _ => ?_⟩))
    · rw [nI_leI (by omega) (by omega)] at c
      omega
    have hs := V.2.2.2.2 i hi
    have ho4 := zs_out_le (zs_at K.2.2.2.1 i)
    refine down (P := fun o => wq_T G l 7 mX1_possible (wq_qi fun r h' => r = nI (zps K.1 K.2.2.2.1 q K.2.2.2.1.length) ∧ h' = h) 18 [some (.ref x), some (.int (b2i q)), some (.int (nI (zpi K.1 K.2.2.2.1 q i o (zps K.1 K.2.2.2.1 q i)))), some (.int (nI i)), some (.int (nI o))] [] h 0 0) (n := zs_out (zs_at K.2.2.2.1 i)) ?_ ?_
    · refine vX1_possible_18 (V.tab (u_set V.2.2 hi (by decide) ⟨_, rfl, v_outcomes hs (by decide) ⟨fun _ => ?_, fun c => absurd (Int32.le_refl _) c⟩⟩))
      rw [nI_1]
      rw [zps_s] at ih
      exact ih
    · intro o ho ih2
      have htm := ok_tm o6.1 hi ho
      have no : zpo K.1 K.2.2.2.1 q i o = false → wq_T G l 7 mX1_possible (wq_qi fun r h' => r = nI (zps K.1 K.2.2.2.1 q K.2.2.2.1.length) ∧ h' = h) 18 [some (.ref x), some (.int (b2i q)), some (.int (nI (zpi K.1 K.2.2.2.1 q i o (zps K.1 K.2.2.2.1 q i)) + 0)), some (.int (nI i)), some (.int (nI o + 1))] [] h 0 0 := by
        intro z
        rw [zpi_s, z] at ih2
        rw [nI_1, nI_lit 0, nI_add]
        exact ih2
      refine vX1_possible_18 (V.tab (u_set V.2.2 hi (by decide) ⟨_, rfl, v_outcomes hs (by decide) ⟨fun c => ?_, fun _ => V.tab (u_set V.2.2 hi (by decide) ⟨_, rfl, v_isPossible hs ho (by omega) (by decide) ⟨fun c => ?_, fun c => V.me (wq_ci.eq (by decide) (c_extended k dk e hi (by omega)) ⟨fun c2 => ?_, fun c2 => ?_⟩)⟩⟩)⟩⟩))
      · rw [nI_leI (by omega) (by omega)] at c
        omega
      · rw [b2i_0] at c
        exact no (by rw [zpo, c, Bool.false_and])
      · rw [b2i_0, Bool.not_eq_false] at c
        rw [bi] at c2
        exact no (by rw [zpo, c, Bool.true_and, beq_eq_false_iff_ne]; exact c2)
      · rw [b2i_0, Bool.not_eq_false] at c
        rw [bi] at c2
        have z : zpo K.1 K.2.2.2.1 q i o = true := by rw [zpo, c, c2]; simp
        rw [zpi_s, if_pos z] at ih2
        rw [nI_1, nI_1]
        exact ih2
theorem c_level (k : cd G h Z x D) (dk : dok D) : wq_C G l 8 0 0 mX1_level [.ref x] h (wq_qi fun r h' => ∃ v, (D.2.2.2.2.2 = none → v = -1) ∧ (∀ K, D.2.2.2.2.2 = some K → (zs_mix K.1 K.2.1 K.2.2.2.1 ∧ v = 0) ∨ (¬ zs_mix K.1 K.2.1 K.2.2.2.1 ∧ v = zs_lev K.1 K.2.2.2.1)) ∧ pk G Z x h (dk_t D (kT D)) v r h') := by
  cases e : D.2.2.2.2.2 with
  | none =>
    rw [kT_n e]
    exact wq_C.of pn_X1 (Nat.le_of_ble_eq_true rfl) rfl (vX1_level_0 (k.n e (none_k (u_refused k (by decide) (by decide) fun h' z1 z2 => ⟨-1, fun _ => rfl, fun K z => (by cases z), pk_of z1 z2⟩))))
  | some K =>
    rw [kT_k e]
    have q := dk.2.2 K e
    have h8 := q.all.1.1
    obtain ⟨p, ce, ba, b, t, li, sa, ta, ca, P⟩ := k.pr e
    obtain ⟨lb, V⟩ := ((P.2.2 h hx.refl).2 P.1).2
    obtain ⟨fs, hx1, -⟩ := V.2
    refine wq_C.of pn_X1 (Nat.le_of_ble_eq_true rfl) rfl (vX1_level_0 (V.1.book (some_k ⟨_, hx1, wq_ci.use (by decide) (Nat.zero_le _) (Nat.zero_le _) (c_isMixed P q) ?_⟩)))
    rintro y h1 ⟨w1, x1, w2⟩
    obtain ⟨k1, lb1, V1⟩ := (P.2.2 h1 w1).2 x1
    have l1 := zps_le (L := K.1) (T := K.2.2.2.1) (q := false) K.2.2.2.1.length
    have l2 := zps_le (L := K.1) (T := K.2.2.2.1) (q := true) K.2.2.2.1.length
    rw [← zps_n] at l1 l2
    rcases w2 with ⟨w2, rfl⟩ | ⟨w2, rfl⟩
    · refine ⟨fun z => absurd z (by decide), fun _ => u_well k1 (by decide) fun h' z1 z2 => ?_⟩
      exact ⟨0, fun z => (by cases z), fun K' z => (by cases z; exact Or.inl ⟨w2, rfl⟩), pk_of z1 ((w1.mono P.2.1).t z2)⟩
    · refine ⟨fun _ => V1.1.me (wq_ci.eq (by decide) (c_possible k1 dk e false) ⟨fun z3 => V1.1.me (wq_ci.eq (by decide) (c_possible k1 dk e true) ⟨fun z4 => u_well k1 (by decide) fun h' z1 z2 => ?_, fun z4 => u_well k1 (by decide) fun h' z1 z2 => ?_⟩), fun z3 => u_well k1 (by decide) fun h' z1 z2 => ?_⟩), fun z => absurd rfl z⟩
      · rw [nI_lit 0, nI_eq (by omega) (by omega)] at z3
        rw [nI_lit 0, nI_leI (by omega) (by omega)] at z4
        refine ⟨3, fun z => (by cases z), fun K' z => (by cases z; exact Or.inr ⟨w2, by rw [zs_lev, if_neg z3, if_neg (by omega)]⟩), pk_of z1 ((w1.mono P.2.1).t z2)⟩
      · rw [nI_lit 0, nI_eq (by omega) (by omega)] at z3
        rw [nI_lit 0, nI_leI (by omega) (by omega)] at z4
        refine ⟨2, fun z => (by cases z), fun K' z => (by cases z; exact Or.inr ⟨w2, by rw [zs_lev, if_neg z3, if_pos (by omega)]⟩), pk_of z1 ((w1.mono P.2.1).t z2)⟩
      · rw [nI_lit 0, nI_eq (by omega) (by omega)] at z3
        refine ⟨1, fun z => (by cases z), fun K' z => (by cases z; exact Or.inr ⟨w2, by rw [zs_lev, if_pos z3]⟩), pk_of z1 ((w1.mono P.2.1).t z2)⟩
end CP20
