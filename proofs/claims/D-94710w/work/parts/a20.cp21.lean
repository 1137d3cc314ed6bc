/-! CONTRACTS of the component: together -/
set_option maxRecDepth 100000
def tokD (D : zs_D) (x1 x2 x3 x4 : Int32) : Bool := match D.2.2.2.2.2 with
  | none => false
  | some K => zs_tok K.1 x1 x2 x3 x4
theorem tokD_k {D : zs_D} {K : zs_K} (e : D.2.2.2.2.2 = some K) (x1 x2 x3 x4 : Int32) : tokD D x1 x2 x3 x4 = zs_tok K.1 x1 x2 x3 x4 := by rw [tokD, e]
section CP21
variable {G : wq_G} {l : Launch} {d C S : Nat} {h h0 : wq_H} {Z : Nat → Nat → Prop} {x : Nat} {D : zs_D} {K : zs_K} {p ce ba : Nat}
theorem c_in2 (v : Int32) : wq_C G l 0 0 0 mX1_in [.int v, .int 0, .int 1] h (wq_qi fun x h' => x = b2i (inB v 2) ∧ h' = h) := by
  have := c_inB (G := G) (l := l) (h := h) v (n := 2) (by decide)
  have e : nI 2 - 1 = (1 : Int32) := by decide
  rwa [e] at this
theorem u_wants {m : Nat} {w0 W : Int32} {low : Int64} {g : Nat → Int32} {t : Nat → Nat → Int64} (hs : cu_i G h0 p ce ba (nI m) w0 W low g t h) (hm : m ≤ 33) {c : Nat} (hc : c < 98) (hd : 1 < d) {s : Int64} {F : wq_H → Nat → Nat → Prop} (q : ∀ h2, cu_i G h0 p ce ba (nI m) w0 W low g (fun r j => if r = m + 1 ∧ j = c then -s else t r j) h2 → F h2 C S) : ∃ fs : List Value, h p = some (.inr (1, fs)) ∧ wq_cw G l d C S mX2_wants [.ref p, .int (nI c), .long s] h F := by
  obtain ⟨k1, f, k2, k3⟩ := id hs
  refine ⟨_, k2.2.1, wq_cw.use (d' := 1) (mc := 0) (ms := 0) (K := fun h2 => cu_i G h0 p ce ba (nI m) w0 W low g (fun r j => if r = m + 1 ∧ j = c then -s else t r j) h2) hd (Nat.zero_le _) (Nat.zero_le _) ?_ fun h2 z => q h2 z⟩
  refine wq_C.of pn_X2 (Nat.le_of_ble_eq_true rfl) rfl (vX2_wants_0 (cu_m hs ?_))
  rw [nI_1]
  exact cu_put hs (by decide) (i := m + 1) (j := c) (by omega) hc fun h2 z => z
theorem c_together (k : cd G h Z x D) (dk : dok D) (x1 x2 x3 x4 x5 x6 : Int32) : wq_C G l 8 0 0 mX1_together [.ref x, .int x1, .int x2, .int x3, .int x4, .int x5, .int x6] h (wq_qi fun r h' => ∃ v tt, (tokD D x1 x2 x3 x4 = false → v = -1 ∧ tt = 1) ∧ (∀ K, D.2.2.2.2.2 = some K → zs_tok K.1 x1 x2 x3 x4 = true → (¬ zs_mix K.1 K.2.1 K.2.2.2.1 ∧ v = -1 ∧ tt = 6) ∨ (zs_mix K.1 K.2.1 K.2.2.2.1 ∧ tt = 0 ∧ zs_frac K.2.1 (zs_tg K.1 K.2.1 K.2.2.2.1 x1.toNatClampNeg x2.toNatClampNeg x3.toNatClampNeg x4.toNatClampNeg (decide (x5 ≠ 0))) x6 v)) ∧ pk G Z x h (dk_t D tt) v r h') := by
  generalize hK : (fun (r : Int32) (h' : wq_H) => ∃ v tt, (tokD D x1 x2 x3 x4 = false → v = -1 ∧ tt = 1) ∧ (∀ K, D.2.2.2.2.2 = some K → zs_tok K.1 x1 x2 x3 x4 = true → (¬ zs_mix K.1 K.2.1 K.2.2.2.1 ∧ v = -1 ∧ tt = 6) ∨ (zs_mix K.1 K.2.1 K.2.2.2.1 ∧ tt = 0 ∧ zs_frac K.2.1 (zs_tg K.1 K.2.1 K.2.2.2.1 x1.toNatClampNeg x2.toNatClampNeg x3.toNatClampNeg x4.toNatClampNeg (decide (x5 ≠ 0))) x6 v)) ∧ pk G Z x h (dk_t D tt) v r h') = Q
  obtain ⟨tp0, pr0, pa0, fu0, mk0, bk0, tb0, kx0⟩ := id k
  have kx := kx0.2.2.2.1
  have no1 : tokD D x1 x2 x3 x4 = false → ∃ fs : List Value, h x = some (.inr (0, fs)) ∧ wq_ci G l 8 0 0 mX1_refused [.ref x, .int 1] h (fun y h' _ _ => Q y h') := by
    intro z
    refine u_refused k (by decide) (by decide) fun h' z1 z2 => ?_
    subst hK
    refine ⟨-1, 1, fun _ => ⟨rfl, rfl⟩, fun K e y => ?_, pk_of z1 z2⟩
    rw [tokD_k e] at z
    rw [z] at y
    cases y
  refine wq_C.of pn_X1 (Nat.le_of_ble_eq_true rfl) rfl (vX1_together_0 ⟨_, kx, wq_ci.eq (by decide) (c_isLook k dk x1) ?_⟩)
  rw [b2i_0]
  refine ⟨fun c => no1 ?_, fun c => ⟨_, kx, wq_ci.eq (by decide) (c_isLook k dk x3) ?_⟩⟩
  · cases e : D.2.2.2.2.2 with
    | none => rw [tokD, e]
    | some K =>
      rw [e] at c
      have c : inB x1 K.1 = false := c
      rw [tokD_k e, zs_tok, c]; rfl
  cases e : D.2.2.2.2.2 with
  | none => rw [e] at c; exact absurd rfl c
  | some K =>
    rw [e] at c
    have c : ¬ inB x1 K.1 = false := c
    rw [Bool.not_eq_false] at c
    dsimp only
    rw [b2i_0]
    have ek := tokD_k e x1 x2 x3 x4
    refine ⟨fun c2 => no1 (by rw [ek, zs_tok, c, c2]; rfl), fun c2 => ⟨fun c3 => no1 (by rw [ek, zs_tok]; simp [c3]), fun c3 => wq_ci.eq (by decide) (c_in2 x2) ?_⟩⟩
    rw [Bool.not_eq_false] at c2
    rw [b2i_0]
    refine ⟨fun c4 => no1 (by rw [ek, zs_tok, c4]; simp), fun c4 => wq_ci.eq (by decide) (c_in2 x4) ?_⟩
    rw [Bool.not_eq_false] at c4
    rw [b2i_0]
    refine ⟨fun c5 => ?_, fun c5 => no1 (by rw [ek, zs_tok, c5]; simp)⟩
    rw [Bool.not_eq_false] at c5
    have q := dk.2.2 K e
    obtain ⟨hok, hL, hL1, hN, hN1⟩ := q.all
    obtain ⟨i, hi, rfl⟩ := inB_of c
    obtain ⟨j, hj, rfl⟩ := inB_of c2
    obtain ⟨u, hu, rfl⟩ := inB_of c4
    obtain ⟨v, hv, rfl⟩ := inB_of c5
    have tok : zs_tok K.1 (nI i) (nI u) (nI j) (nI v) = true := by rw [zs_tok, c, c2, c4, c5]; simp [c3]
    obtain ⟨p, ce, ba, b, t, li, sa, ta, ca, P⟩ := k.pr e
    obtain ⟨lb, V⟩ := ((P.2.2 h hx.refl).2 P.1).2
    obtain ⟨m0, w00, W0, low0, f0, g0, pg⟩ := P.1
    have hp := pow_64 hL
    obtain ⟨m1, m2⟩ := lp_m33 hok.1
    -- what it answers
    have fin : ∀ (h1 : wq_H), hx (pz p ce ba) h h1 → pgx G h1 p ce ba → zs_mix K.1 K.2.1 K.2.2.2.1 → ∀ r, zs_frac K.2.1 (zs_tg K.1 K.2.1 K.2.2.2.1 i u j v (decide (x5 ≠ 0))) x6 r → ∃ fs : List Value, h1 x = some (.inr (0, fs)) ∧ wq_ci G l 8 0 0 mX1_well [.ref x, .int r] h1 (fun y h' _ _ => Q y h') := by
      intro h1 w1 y1 mx r fr
      refine u_well ((P.2.2 h1 w1).2 y1).1 (by decide) fun h' z1 z2 => ?_
      subst hK
      refine ⟨r, 0, fun y => absurd (ek.symm.trans y) (by rw [tok]; decide), fun K' e' _ => ?_, pk_of z1 ((w1.mono P.2.1).t z2)⟩
      rw [e] at e'
      cases e'
      refine Or.inr ⟨mx, rfl, ?_⟩
      rw [nI_clamp (by omega), nI_clamp (by omega), nI_clamp (by omega), nI_clamp (by omega)]
      exact fr
    have none6 : ∀ (h1 : wq_H), hx (pz p ce ba) h h1 → pgx G h1 p ce ba → ¬ zs_mix K.1 K.2.1 K.2.2.2.1 → ∃ fs : List Value, h1 x = some (.inr (0, fs)) ∧ wq_ci G l 8 0 0 mX1_refused [.ref x, .int 6] h1 (fun y h' _ _ => Q y h') := by
      intro h1 w1 y1 mx
      refine u_refused ((P.2.2 h1 w1).2 y1).1 (by decide) (by decide) fun h' z1 z2 => ?_
      subst hK
      refine ⟨-1, 6, fun y => absurd (ek.symm.trans y) (by rw [tok]; decide), fun K' e' _ => ?_, pk_of z1 ((w1.mono P.2.1).t z2)⟩
      rw [e] at e'
      cases e'
      exact Or.inl ⟨mx, rfl, rfl⟩
    have bs := fun (aim : Nat → Int) ha => lp_bsA (N := K.2.1) (T := K.2.2.2.1) (u := 1) (aim := aim) hok hL (Nat.le_refl 1) hN ha m1
    have bs1 := bs lp_1 (fun _ _ => (by decide : (-1 : Int) * -1 ≤ 1))
    have bs2 := bs (tg_aim i u j v (decide (x5 ≠ 0))) (fun h _ => tg_aim_sq h)
    refine V.pr (V.1.tab (V.1.book ⟨b, rfl, V.1.hid hL (by decide) (V.1.book ⟨b, rfl, V.1.of ⟨_, pg.2.1, wq_cw.use (by decide) (Nat.zero_le _) (Nat.zero_le _) (c_lays (fun h' z => (P.2.2 h' z).1) hok hL hN pg) ?_⟩⟩)⟩))
    rintro h1 ⟨g1, t1, a1, a2, a3, a4⟩
    have bit : ∀ c x y, c < 2 ^ 31 → x < K.1 → y < 2 → (((nI c >>> (nI x &&& 31)) &&& 1) = nI y ↔ c / 2 ^ x % 2 = y) := fun c x y hc hx hy => by
      have : c / 2 ^ x % 2 < 2 := Nat.mod_lt _ (by omega)
      rw [nI_bit hc (by omega), nI_eq (by omega) (by omega)]
    have loop : ∀ n y h1 t1, y + n = 2 ^ K.1 → cu_i G h p ce ba (nI (lp_m K.2.2.2.1 1)) (nI (2 ^ K.1)) (nI (2 ^ K.1 + lp_m K.2.2.2.1 1)) (jJ 1) g1 t1 h1 → (∀ r c, r ≤ lp_m K.2.2.2.1 1 → c ≤ 2 ^ K.1 + lp_m K.2.2.2.1 1 → t1 r c = jJ (lp_A K.1 K.2.1 K.2.2.2.1 1 lp_1 c r)) → (∀ c, c < 98 → t1 (lp_m K.2.2.2.1 1 + 1) c = jJ (if c < y then tg_aim i u j v (decide (x5 ≠ 0)) c else 0)) → wq_T G l 8 mX1_together (wq_qi Q) 74 [some (.ref x), some (.int (nI i)), some (.int (nI u)), some (.int (nI j)), some (.int (nI v)), some (.int x5), some (.int x6), some (.int (nI y)), none] [] h1 0 0 := by
      intro n
      induction n with
      | zero =>
        intro y h1 t1 hy a1 a3 a4
        obtain rfl : y = 2 ^ K.1 := by omega
        obtain ⟨q1, f1, k1, -⟩ := id a1
        obtain ⟨lb1, V1⟩ := ((P.2.2 h1 q1).2 ⟨_, _, _, _, _, _, k1⟩).2
        have iv1 := first_iv (L := K.1) (N := K.2.1) (q := lp_m K.2.2.2.1 1) (aim := lp_1) (f := t1) (fun r c hr hc => a3 r c (by omega) hc) (fun c hc => by rw [a3 _ c (Nat.le_refl _) hc, lp_cost hc])
        have iv2 := first_iv (L := K.1) (N := K.2.1) (q := lp_m K.2.2.2.1 1 + 1) (aim := tg_aim i u j v (decide (x5 ≠ 0))) (f := t1) (fun r c hr hc => a3 r c (by omega) hc) (fun c hc => a4 c (by omega))
        have sok := sx_first_ok (lp_sl (L := K.1) (N := K.2.1) (T := K.2.2.2.1) (u := 1) (aim := lp_1)) lp_A3
        have up : lp_up (lp_A K.1 K.2.1 K.2.2.2.1 1 lp_1) (lp_A K.1 K.2.1 K.2.2.2.1 1 lp_1) (lp_m K.2.2.2.1 1) (2 ^ K.1 + lp_m K.2.2.2.1 1) (lp_m K.2.2.2.1 1) (fun _ => true) (fun r => 2 ^ K.1 + r) t1 (jJ 1) := ⟨iv1, iv1, sok, fun e => absurd e (by omega)⟩
        refine vX1_together_74 (V1.1.book ⟨b, rfl, V1.1.hid hL (by decide) ⟨fun _ => V1.pr ⟨_, k1.2.1, wq_cj.use (by decide) (Nat.zero_le _) (Nat.zero_le _) (c_most a1 m2 (by omega) false (Or.inl ⟨rfl, rfl, fun _ => rfl⟩) bs1 bs1 bs2 lp_A0 (fun c hc => lp_A2 (Or.inl rfl) hc) a2 up (fun _ => iv2)) ?_⟩, fun z => absurd (Int32.le_refl _) z⟩⟩)
        rintro y h2 ⟨bb, low', g', t', e1, e2, e3, e4, e5, rfl⟩
        have ok1 := e3.2.2.1
        have op := lp_opt1 hok (Or.inl rfl) ok1 (fun c hc => e5 c hc rfl)
        obtain ⟨q2, f2, k2, -⟩ := id e1
        have x2 : pgx G h2 p ce ba := ⟨_, _, _, _, _, _, k2⟩
        obtain ⟨lb2, V2⟩ := ((P.2.2 h2 q2).2 x2).2
        have bz := (bs1.2 bb ok1.2.1 _ (Nat.le_refl _)).2
        have bD := bs1.D ok1.2.1
        have b3 := nab_mul (a := (K.2.1 : Int)) (P := 60) (by omega) bD
        have elow := e3.1.1
        refine V2.1.book ⟨b, rfl, V2.1.of (V2.pr (gJ1 k2.2.1 rfl ?_))⟩
        rw [e3.1.2.2 _ (Nat.le_refl _), elow, jJ_n (by omega), jJ_mul, lg_cmp_eq, jJ_inj (by omega) (by omega) (by omega) (by omega)]
        refine ⟨fun mx0 => ?_, fun mx0 => none6 h2 q2 x2 (fun y => mx0 ((zs_mix_iff op).mp y))⟩
        have mx := (zs_mix_iff op).mpr mx0
        have iv1' := e3.1
        have iv2' := e4 rfl
        have ok2 := iv1'.ok iv2' bs1 bs2 ok1
        have up2 : lp_up (lp_A K.1 K.2.1 K.2.2.2.1 1 (tg_aim i u j v (decide (x5 ≠ 0)))) (lp_A K.1 K.2.1 K.2.2.2.1 1 lp_1) (lp_m K.2.2.2.1 1) (2 ^ K.1 + lp_m K.2.2.2.1 1) (lp_m K.2.2.2.1 1 + 1) (fun c => decide (sx_t (lp_A K.1 K.2.1 K.2.2.2.1 1 lp_1) (lp_m K.2.2.2.1 1) bb (lp_m K.2.2.2.1 1) c = 0)) bb t' low' := ⟨iv2', iv1', ok2, fun _ c hc => ⟨e5 c hc rfl, by simp⟩⟩
        refine V2.pr ⟨_, k2.2.1, wq_cj.use (by decide) (Nat.zero_le _) (Nat.zero_le _) (c_most (A2 := lp_A K.1 K.2.1 K.2.2.2.1 1 lp_1) e1 m2 (by omega) true (Or.inr ⟨rfl, rfl⟩) bs2 bs1 bs1 lp_A0 (fun c hc => lp_A2 (Or.inl rfl) hc) e2 up2 (fun z => by cases z)) ?_⟩
        rintro y h3 ⟨b', low3, g3, t3, s1, s2, s3, -, s5, rfl⟩
        obtain ⟨q3, f3, k3, -⟩ := id s1
        have x3' : pgx G h3 p ce ba := ⟨_, _, _, _, _, _, k3⟩
        obtain ⟨lb3, V3⟩ := ((P.2.2 h3 q3).2 x3').2
        obtain ⟨k5, k6, k7, k8⟩ := s3
        have ok1' := k5.ok k6 bs2 bs1 k7
        have op1 := lp_opt1 hok (Or.inl rfl) ok1' (fun c hc => (k8 rfl c hc).1)
        have op2 := lp_opt2 (aim := tg_aim i u j v (decide (x5 ≠ 0))) hok (Or.inl rfl) (wt := fun h => (if (decide (x5 ≠ 0)) then 1 else -1) * zs_w i u j v h) (fun h => by cases (decide (x5 ≠ 0)) <;> simp [tg_aim, tg_s]) k7 (k8 rfl) s5 ((zs_mix_iff op1).mp mx)
        have hD := k7.1
        have c1 := (bs2.2 b' k7.2.1 _ (Nat.le_refl _)).2
        have c2 := bs2.D k7.2.1
        have c3 := nab_mul (a := (K.2.1 : Int)) (P := 60) (by omega) c2
        have ey := k5.2.2 _ (Nat.le_refl _)
        have el := k5.1
        generalize sx_t (lp_A K.1 K.2.1 K.2.2.2.1 1 (tg_aim i u j v (decide (x5 ≠ 0)))) (lp_m K.2.2.2.1 1) b' (lp_m K.2.2.2.1 1) (2 ^ K.1 + lp_m K.2.2.2.1 1) = z at *
        generalize sx_D (lp_A K.1 K.2.1 K.2.2.2.1 1 (tg_aim i u j v (decide (x5 ≠ 0)))) (lp_m K.2.2.2.1 1) b' = E at *
        have hND : 0 < (K.2.1 : Int) * E := Int.mul_pos (by omega) hD
        have e4' : (K.2.1 : Int) * E = (((K.2.1 : Int) * E).toNat : Int) := by omega
        have ans : ∀ w : Int, w.natAbs ≤ 18000000000 → zs_tg K.1 K.2.1 K.2.2.2.1 i u j v (decide (x5 ≠ 0)) w E → ∀ C S : Nat, wq_gQ h3 x [(0, 5)] (fun r30 => ∃ a31, r30 = some a31 ∧ (wq_gI h3 a31 [(5, 0)] (fun y33 => wq_gR h3 x [(0, 7)] (fun a34 => wq_gJ h3 a34 [(1, 5)] (fun y35 => wq_ci G l 8 0 0 mX1_lowest [.long (jJ w), .long (y33.toInt64 * y35), .int x6] h3 (fun y39 h36 C37 S38 => ∃ fs44 : List Value, h36 x = some (.inr (0, fs44)) ∧ (wq_ci G l 8 C37 S38 mX1_well [.ref x, .int y39] h36 (fun y43 h40 C41 S42 => Q y43 h40)))))))) := by
          intro w hw tg _ _
          have nn := zs_tg_nn tg
          refine V3.1.book ⟨b, rfl, V3.1.of (V3.pr (gJ1 k3.2.1 rfl ?_))⟩
          rw [el, jJ_n (by omega), jJ_mul, e4', show w = (w.toNat : Int) by omega]
          exact wq_ci.eq (by decide) (c_lowest (by omega) (by omega) (by omega) x6) (fin h3 q3 x3' mx _ ⟨_, _, tg, hD, nn, rfl⟩)
        rw [ey]
        refine ⟨fun z5 => ?_, fun z5 => ?_⟩
        · rw [jJ_neg]
          refine ans (-z) (by omega) ?_ 0 0
          have hd : decide (x5 ≠ 0) = false := by simp [z5]
          rw [hd] at op2 ⊢
          unfold zs_tg
          have e7 : (if false = true then (1 : Int) else -1) * -z = z := by simp
          rw [e7]
          exact op2
        · refine ans z c1 ?_ 0 0
          have hd : decide (x5 ≠ 0) = true := by simp [z5]
          rw [hd] at op2 ⊢
          unfold zs_tg
          have e7 : (if true = true then (1 : Int) else -1) * z = z := by simp
          rw [e7]
          exact op2
      | succ n ih =>
        intro y h1 t1 hy a1 a3 a4
        obtain ⟨q1, f1, k1, -⟩ := id a1
        obtain ⟨lb1, V1⟩ := ((P.2.2 h1 q1).2 ⟨_, _, _, _, _, _, k1⟩).2
        have skip : zs_w i u j v y = 0 → wq_T G l 8 mX1_together (wq_qi Q) 74 [some (.ref x), some (.int (nI i)), some (.int (nI u)), some (.int (nI j)), some (.int (nI v)), some (.int x5), some (.int x6), some (.int (nI y + 1)), none] [] h1 0 0 := by
          intro z
          rw [nI_1]
          refine ih (y + 1) h1 t1 (by omega) a1 a3 fun c hc => ?_
          rw [a4 c hc]
          by_cases e : c = y
          · rw [if_neg (by omega), if_pos (by omega), e]
            show _ = jJ (tg_s _ * zs_w i u j v y)
            rw [z, Int.mul_zero]
          · by_cases e2 : c < y
            · rw [if_pos e2, if_pos (by omega)]
            · rw [if_neg e2, if_neg (by omega)]
        have take : ∀ s : Int64, -s = jJ (tg_aim i u j v (decide (x5 ≠ 0)) y) → ∃ fs : List Value, h1 p = some (.inr (1, fs)) ∧ wq_cw G l 8 0 0 mX2_wants [.ref p, .int (nI y), .long s] h1 (fun h69 C70 S71 => wq_T G l 8 mX1_together (wq_qi Q) 74 [some (.ref x), some (.int (nI i)), some (.int (nI u)), some (.int (nI j)), some (.int (nI v)), some (.int x5), some (.int x6), some (.int (nI y + 1)), none] [] h69 C70 S71) := by
          intro s hs
          refine u_wants a1 m2 (by omega) (by decide) fun h2 z => ?_
          rw [nI_1]
          refine ih (y + 1) h2 _ (by omega) z (fun r c hr hc => ?_) fun c hc => ?_
          · rw [if_neg (by omega)]; exact a3 r c hr hc
          · by_cases e : c = y
            · rw [if_pos ⟨rfl, e⟩, if_pos (by omega), hs, e]
            · rw [if_neg (fun w => e w.2), a4 c hc]
              by_cases e2 : c < y
              · rw [if_pos e2, if_pos (by omega)]
              · rw [if_neg e2, if_neg (by omega)]
        refine vX1_together_74 (V1.1.book ⟨b, rfl, V1.1.hid hL (by decide) ⟨fun z => ?_, fun _ => ⟨fun z => ?_, fun z => ⟨fun z2 => ?_, fun z2 => V1.pr ⟨fun z3 => ?_, fun z3 => ?_⟩⟩⟩⟩⟩)
        · rw [nI_leI (by omega) (by omega)] at z
          omega
        · rw [bit y i u (by omega) hi hu] at z
          exact skip (by unfold zs_w; rw [if_neg (fun w => z w.1)])
        · rw [bit y j v (by omega) hj hv] at z2
          exact skip (by unfold zs_w; rw [if_neg (fun w => z2 w.2)])
        · rw [bit y i u (by omega) hi hu] at z
          rw [bit y j v (by omega) hj hv] at z2
          have hd : decide (x5 ≠ 0) = false := by simp [z3]
          refine take _ ?_
          show _ = jJ (tg_s (decide (x5 ≠ 0)) * zs_w i u j v y)
          rw [hd]
          unfold zs_w
          rw [if_pos ⟨z, z2⟩]; rfl
        · rw [bit y i u (by omega) hi hu] at z
          rw [bit y j v (by omega) hj hv] at z2
          have hd : decide (x5 ≠ 0) = true := by simp [z3]
          refine take _ ?_
          show _ = jJ (tg_s (decide (x5 ≠ 0)) * zs_w i u j v y)
          rw [hd]
          unfold zs_w
          rw [if_pos ⟨z, z2⟩]; rfl
    exact loop (2 ^ K.1) 0 h1 t1 (by omega) a1 a3 (fun c hc => by rw [a4 c hc, if_neg (Nat.not_lt_zero c)]; rfl)
end CP21
