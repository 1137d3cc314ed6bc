/-! CONTRACTS of the component: colours, fourth: what is asked -/
set_option maxRecDepth 100000
theorem cD_cong {e e' : Nat → Nat → Bool} {n : Nat} (h : ∀ i j, i < n → j < n → e i j = e' i j) {a b c : Nat} (ha : a < n) (hb : b < n) (hc : c < n) : ∀ m d, d + m ≤ n → cD e a b c m d = cD e' a b c m d := by
  intro m
  induction m with
  | zero => intro d _; rfl
  | succ m ih => intro d hd; rw [cD, cD, ih (d + 1) (by omega), h a d ha (by omega), h b d hb (by omega), h c d hc (by omega)]
theorem cC_cong {e e' : Nat → Nat → Bool} {n : Nat} (h : ∀ i j, i < n → j < n → e i j = e' i j) {a b : Nat} (ha : a < n) (hb : b < n) : ∀ m c, c + m ≤ n → cC e n a b m c = cC e' n a b m c := by
  intro m
  induction m with
  | zero => intro d _; rfl
  | succ m ih => intro c hc; rw [cC, cC, ih (c + 1) (by omega), h a c ha (by omega), h b c hb (by omega), cD_cong h ha hb (show c < n by omega) _ _ (by omega)]
theorem cB_cong {e e' : Nat → Nat → Bool} {n : Nat} (h : ∀ i j, i < n → j < n → e i j = e' i j) {a : Nat} (ha : a < n) : ∀ m b, b + m ≤ n → cB e n a m b = cB e' n a m b := by
  intro m
  induction m with
  | zero => intro d _; rfl
  | succ m ih => intro b hb; rw [cB, cB, ih (b + 1) (by omega), h a b ha (by omega), cC_cong h ha (show b < n by omega) _ _ (by omega)]
theorem cor_cong {e e' : Nat → Nat → Bool} {n : Nat} (h : ∀ i j, i < n → j < n → e i j = e' i j) : cor e n = cor e' n := by
  have key : ∀ m a, a + m ≤ n → cA e n m a = cA e' n m a := by
    intro m
    induction m with
    | zero => intro d _; rfl
    | succ m ih => intro a ha; rw [cA, cA, ih (a + 1) (by omega), cB_cong h (show a < n by omega) _ _ (by omega)]
  exact key n 0 (by omega)
theorem th_0 (n : Nat) : th n 0 = 2 ^ n - 1 := by
  unfold th
  rw [bs_all, allB_iff]
  intro k _
  simp
theorem th_1 {n k : Nat} (hk : k < n) : th n (2 ^ k) = (2 ^ n - 1) ^^^ 2 ^ k := by
  refine Nat.eq_of_testBit_eq fun i => ?_
  rw [th_bit, Nat.testBit_two_pow, Nat.testBit_xor, Nat.testBit_two_pow_sub_one, Nat.testBit_two_pow]
  by_cases c : k = i
  · rw [← c]; simp [hk]
  · simp [c]
theorem cor2_all (B : zs_B) : cor2 B (2 ^ B.2.2.1.length - 1) = zs_cor B := by
  refine cor_cong fun i j hi hj => ?_
  rw [re2, Nat.testBit_two_pow_sub_one, Nat.testBit_two_pow_sub_one]
  simp [hi, hj]
/-- the rays given up so far -/
def ot (B : zs_B) (k : Nat) : Nat := bs (fun i => !(zs_crit B k).testBit i) B.2.2.1.length
theorem ot_th {B : zs_B} {k : Nat} (hk : k ≤ B.2.2.1.length) : th B.2.2.1.length (ot B k) = zs_crit B k := by
  refine Nat.eq_of_testBit_eq fun i => ?_
  have hl := (crit_bit B k hk).1
  rw [th_bit, ot, bs_bit]
  by_cases c : i < B.2.2.1.length
  · simp [c]
  · have : (zs_crit B k).testBit i = false := Nat.testBit_lt_two_pow (Nat.lt_of_lt_of_le hl (Nat.pow_le_pow_right (by omega) (by omega)))
    simp [c, this]
theorem ot_or {B : zs_B} {k : Nat} (hk : k < B.2.2.1.length) : th B.2.2.1.length (ot B k ||| 2 ^ k) = zs_crit B k ^^^ 2 ^ k := by
  refine Nat.eq_of_testBit_eq fun i => ?_
  obtain ⟨hl, hb⟩ := crit_bit B k (by omega)
  rw [th_bit, Nat.testBit_or, ot, bs_bit, Nat.testBit_two_pow, Nat.testBit_xor, Nat.testBit_two_pow]
  by_cases c : i < B.2.2.1.length
  · by_cases e : k = i
    · rw [← e]; simp [hk, hb k (Nat.le_refl _) hk]
    · simp [c, e]
  · have : (zs_crit B k).testBit i = false := Nat.testBit_lt_two_pow (Nat.lt_of_lt_of_le hl (Nat.pow_le_pow_right (by omega) (by omega)))
    have e : ¬ k = i := by omega
    simp [c, this, e]
theorem ot_s {B : zs_B} {k : Nat} (hk : k < B.2.2.1.length) : ot B (k + 1) = if zs_lv B (zs_crit B k ^^^ 2 ^ k) = [] then ot B k ||| 2 ^ k else ot B k := by
  obtain ⟨hl, hb⟩ := crit_bit B k (by omega)
  by_cases c : zs_lv B (zs_crit B k ^^^ 2 ^ k) = []
  · rw [if_pos c]
    refine Nat.eq_of_testBit_eq fun i => ?_
    rw [Nat.testBit_or, ot, ot, bs_bit, bs_bit, Nat.testBit_two_pow, zs_crit, if_pos c, Nat.testBit_xor, Nat.testBit_two_pow]
    by_cases e : k = i
    · rw [← e]; simp [hk, hb k (Nat.le_refl _) hk]
    · simp [e]
  · rw [if_neg c, ot, ot, zs_crit, if_neg c]
theorem ot_0 (B : zs_B) : ot B 0 = 0 := by
  refine Nat.eq_of_testBit_eq fun i => ?_
  rw [ot, bs_bit, zs_crit, Nat.testBit_two_pow_sub_one, Nat.zero_testBit]
  by_cases c : i < B.2.2.1.length
  · simp [c]
  · simp [c]
theorem ot_lt (B : zs_B) (k : Nat) : ot B k < 2 ^ B.2.2.1.length := bs_lt _ _
section CP17
variable {G : wq_G} {l : Launch} {d C S : Nat} {h : wq_H} {Z : Nat → Nat → Prop} {x : Nat} {D : zs_D} {L N : Nat} {B : zs_B}
theorem cd.c (k : cd G h Z x D) : cz G h Z := by obtain ⟨_, _, _, _, _, _, _, z⟩ := k; exact z.1
theorem cd.o (k : cd G h Z x D) : kon G h := by obtain ⟨_, _, _, _, _, _, _, z⟩ := k; exact z.2.1
theorem cd.kin (k : cd G h Z x D) {h' : wq_H} (ki : kin G h) (q : hx (own Z) h h') : kin G h' := ki.hx q fun b hb => by obtain ⟨i, hb⟩ := hb; exact (k.c.1 i b hb).1
theorem c_coloured (k : cd G h Z x D) (ki : kin G h) (dk : dok D) {K : zs_K} (e : D.2.2.2.2.2 = some K) (w : Nat) (al : Bool) : wq_C G l 30 414 2060 mX1_coloured [.ref x, .int (nI w), .int (b2i al)] h (wq_qq fun r h' => ∃ a sq li, r = some a ∧ h' a = some (.inr (13, co_l K.2.2.1.2.2.1.length (th K.2.2.1.2.2.1.length w) sq li (nI (ctf al (zs_lv K.2.2.1 (th K.2.2.1.2.2.1.length w)) (0, none)).1) (on1 (ctf al (zs_lv K.2.2.1 (th K.2.2.1.2.2.1.length w)) (0, none)).2))) ∧ hx (fun _ => False) h h') := by
  have hB := (dk.2.2 K e).2.1
  have h18 := hB.2.2.2.1
  have hp18 : 2 ^ K.2.2.1.2.2.1.length ≤ 2 ^ 18 := pow_9 h18
  refine wq_C.of pn_X1 (Nat.le_of_ble_eq_true rfl) rfl (vX1_coloured_0 ⟨by omega, by omega, fun a ha za => ?_⟩)
  have q1 : hx (fun _ => False) h (wq_set h a (.inr (13, [.int 0, .int 0, .null, .null, .int 0, .int 0]))) := hx.set (Or.inr ha)
  have k1 := k.ext q1
  obtain ⟨fs, b, hx1, h5, hb⟩ := k1.kb e
  have hn0 : ∀ y, Z 1 y → y ≠ a := fun y hy z => (k.c.1 1 y hy).2 (by rw [z]; exact ha)
  refine gQ1 hx1 (x := some b) h5 (wq_cw.use (by decide) (by omega) (by omega) (c_colinit (w := w) hB (ki.hx q1 fun _ z => z.elim) k1.o za wq_set_eq hb hn0 (fun y hy => (k.c.1 1 y hy).1)) ?_)
  rintro h2 ⟨sq, li, f, g1, g2, g3, g4, g5⟩
  have q2 : hx (fun _ => False) h h2 := q1.trans g5 fun y hy => Or.inr (by rw [hy]; exact ha)
  refine ⟨_, g1, ?_⟩
  have c := c_counts (G := G) (l := l) (L := K.1) (P := nw G (wq_set h a (.inr (13, [.int 0, .int 0, .null, .null, .int 0, .int 0])))) (li := li) (f := f) hB za (th_lt (n := K.2.2.1.2.2.1.length) (w := w)) al K.2.2.1.2.2.1.length 0 0 (0, none) h2 (by omega) (Nat.two_pow_pos _) (fun k hk => by rw [Nat.zero_testBit] at hk; cases hk) (by show 0 + _ ≤ _; omega) (fun m hm => by cases hm) (k1.o.hx g5 fun y hy => by rw [hy]; exact za) g1 g2 g3 g4
  refine wq_cw.use (by omega) (Nat.zero_le _) (Nat.zero_le _) c ?_
  rintro h3 rfl
  exact ⟨a, sq, li, rfl, wq_set_eq, q2.trans (hx.set (P := fun y => y = a) (Or.inl rfl)) fun y hy => Or.inr (by rw [hy]; exact ha)⟩
theorem c_corners (k : cd G h Z x D) (ki : kin G h) (dk : dok D) : wq_C G l 31 414 2060 mX1_corners [.ref x] h (wq_qi (pk G Z x h (dk_t D (kT D)) (qK D (-1) fun K => nI (zs_cor K.2.2.1).length))) := by
  cases e : D.2.2.2.2.2 with
  | none =>
    rw [kT_n e, qK_n e]
    exact wq_C.of pn_X1 (Nat.le_of_ble_eq_true rfl) rfl (vX1_corners_0 (k.n e (none_k (u_refused k (by decide) (by decide) fun h' => pk_of))))
  | some K =>
    rw [kT_k e, qK_k e]
    obtain ⟨fs0, b0, hx0', h50, -⟩ := k.kb e
    have hB := (dk.2.2 K e).2.1
    refine wq_C.of pn_X1 (Nat.le_of_ble_eq_true rfl) rfl (vX1_corners_0 (gQ1 hx0' (x := some b0) h50 (some_k ⟨by omega, by omega, fun a ha za => ?_⟩)))
    have q1 : hx (fun _ => False) h (wq_set h a (.inr (13, [.int 0, .int 0, .null, .null, .int 0, .int 0]))) := hx.set (Or.inr ha)
    have k1 := k.ext q1
    obtain ⟨fs, b, hx1, h5, hb⟩ := k1.kb e
    have hn0 : ∀ y, Z 1 y → y ≠ a := fun y hy z => (k.c.1 1 y hy).2 (by rw [z]; exact ha)
    refine gQ1 hx1 (x := some b) h5 (wq_cw.use (by decide) (by omega) (by omega) (c_colinit (w := 0) hB (ki.hx q1 fun _ z => z.elim) k1.o za wq_set_eq hb hn0 (fun y hy => (k.c.1 1 y hy).1)) ?_)
    rintro h2 ⟨sq, li, f, g1, g2, g3, g4, g5⟩
    have q2 : hx (fun _ => False) h h2 := q1.trans g5 fun y hy => Or.inr (by rw [hy]; exact ha)
    have k2 := k.ext q2
    obtain ⟨es, w1, w2, -⟩ := g4
    obtain ⟨ba, w3⟩ := w1.at
    have hsz := c_size (l := l) w3
    obtain ⟨m, n0, f0, w4, -⟩ := w3
    have hlen : es.length = (zs_cor K.2.2.1).length := by rw [w2, th_0, cor2_all]
    refine ⟨_, g1, wq_ci.eq (d' := 1) (by decide) (v := nI es.length) (wq_C.of pn_X15 (Nat.le_of_ble_eq_true rfl) rfl (vX15_corners_0 (gR1 g1 rfl ⟨_, w4, wq_ci.eq (by decide) hsz ⟨rfl, rfl⟩⟩))) ?_⟩
    rw [hlen]
    exact u_well k2 (by decide) fun h' z1 z2 => pk_of z1 ((hx0 q2).t z2)
theorem c_colours (k : cd G h Z x D) (ki : kin G h) (dk : dok D) : wq_C G l 31 414 2060 mX1_colours [.ref x] h (wq_qi (pk G Z x h (dk_t D (kT D)) (qK D (-1) fun K => nI (zs_lv K.2.2.1 (2 ^ K.2.2.1.2.2.1.length - 1)).length))) := by
  cases e : D.2.2.2.2.2 with
  | none =>
    rw [kT_n e, qK_n e]
    exact wq_C.of pn_X1 (Nat.le_of_ble_eq_true rfl) rfl (vX1_colours_0 (k.n e (none_k (u_refused k (by decide) (by decide) fun h' => pk_of))))
  | some K =>
    rw [kT_k e, qK_k e]
    obtain ⟨fs0, b0, hx0', h50, -⟩ := k.kb e
    refine wq_C.of pn_X1 (Nat.le_of_ble_eq_true rfl) rfl (vX1_colours_0 (gQ1 hx0' (x := some b0) h50 (some_k ⟨_, hx0', wq_cq.use (by decide) (Nat.le_refl _) (Nat.le_refl _) (c_coloured k ki dk e 0 true) ?_⟩)))
    rintro r h1 ⟨a, sq, li, rfl, g1, g2⟩
    rw [th_0, ctf_0] at g1
    refine ⟨a, rfl, gI1 g1 rfl (u_well (k.ext g2) (by decide) fun h' z1 z2 => pk_of z1 ((hx0 g2).t z2))⟩
theorem c_ones (k : cd G h Z x D) (ki : kin G h) (dk : dok D) : wq_C G l 31 414 2060 mX1_ones [.ref x] h (wq_qi (pk G Z x h (dk_t D (qK D 1 fun K => if zs_lv K.2.2.1 (2 ^ K.2.2.1.2.2.1.length - 1) = [] then 6 else 0)) (qK D (-1) fun K => if zs_lv K.2.2.1 (2 ^ K.2.2.1.2.2.1.length - 1) = [] then -1 else nI (mo 0 (zs_lv K.2.2.1 (2 ^ K.2.2.1.2.2.1.length - 1)))))) := by
  cases e : D.2.2.2.2.2 with
  | none =>
    rw [qK_n e, qK_n e]
    exact wq_C.of pn_X1 (Nat.le_of_ble_eq_true rfl) rfl (vX1_ones_0 (k.n e (none_k (u_refused k (by decide) (by decide) fun h' => pk_of))))
  | some K =>
    rw [qK_k e, qK_k e]
    obtain ⟨fs0, b0, hx0', h50, -⟩ := k.kb e
    refine wq_C.of pn_X1 (Nat.le_of_ble_eq_true rfl) rfl (vX1_ones_0 (gQ1 hx0' (x := some b0) h50 (some_k ⟨_, hx0', wq_cq.use (by decide) (Nat.le_refl _) (Nat.le_refl _) (c_coloured k ki dk e 0 true) ?_⟩)))
    rintro r h1 ⟨a, sq, li, rfl, g1, g2⟩
    have ob := ctf_ob true (zs_lv K.2.2.1 (th K.2.2.1.2.2.1.length 0)) (0, none) (fun m hm => by cases hm)
    rw [th_0, ctf_0] at g1 ob
    refine ⟨a, rfl, gI1 g1 rfl ?_⟩
    by_cases c : zs_lv K.2.2.1 (2 ^ K.2.2.1.2.2.1.length - 1) = []
    · simp only [c, if_true] at g1 ⊢
      exact ⟨fun z => absurd rfl z, fun _ => u_refused (k.ext g2) (by decide) (by decide) fun h' z1 z2 => pk_of z1 ((hx0 g2).t z2)⟩
    · simp only [c, if_false] at g1 ob ⊢
      have := ob _ rfl
      exact ⟨fun _ => u_well (k.ext g2) (by decide) fun h' z1 z2 => pk_of z1 ((hx0 g2).t z2), fun z => absurd z (nI_ne1 (by omega))⟩
theorem nI_0le {b : Nat} (hb : b ≤ 1) : nI b ≤ 0 ↔ b = 0 := by
  rw [nI_lit 0, nI_leI (by omega) (by omega)]
  omega
theorem c_spare (k : cd G h Z x D) (ki : kin G h) (dk : dok D) : wq_C G l 31 7866 39140 mX1_spare [.ref x] h (wq_qi (pk G Z x h (dk_t D (kT D)) (qK D (-1) fun K => if zs_lv K.2.2.1 (2 ^ K.2.2.1.2.2.1.length - 1) = [] then nI (zs_spare K.2.2.1) else 0))) := by
  cases e : D.2.2.2.2.2 with
  | none =>
    rw [kT_n e, qK_n e]
    exact wq_C.of pn_X1 (Nat.le_of_ble_eq_true rfl) rfl (vX1_spare_0 (k.n e (none_k (u_refused k (by decide) (by decide) fun h' => pk_of))))
  | some K =>
    rw [kT_k e, qK_k e]
    obtain ⟨fs0, b0, hx0', h50, -⟩ := k.kb e
    have hB := (dk.2.2 K e).2.1
    have h18 := hB.2.2.2.1
    refine wq_C.of pn_X1 (Nat.le_of_ble_eq_true rfl) rfl (vX1_spare_0 (gQ1 hx0' (x := some b0) h50 (some_k ⟨_, hx0', wq_cq.use (by decide) (by omega) (by omega) (c_coloured k ki dk e 0 false) ?_⟩)))
    rintro r h1 ⟨a, sq, li, rfl, g1, g2⟩
    rw [th_0, ctf_1] at g1
    refine ⟨a, rfl, gI1 g1 rfl ?_⟩
    by_cases c : zs_lv K.2.2.1 (2 ^ K.2.2.1.2.2.1.length - 1) = []
    · simp only [if_pos c]
      refine ⟨fun _ => ?_, fun z => absurd (by decide) z⟩
      refine down (P := fun i => ∀ h1 C S, (K.2.2.1.2.2.1.length - i) * 414 ≤ C → (K.2.2.1.2.2.1.length - i) * 2060 ≤ S → hx (fun _ => False) h h1 → wq_T G l 31 mX1_spare (wq_qi (pk G Z x h (dk_t D 0) (nI (zs_spare K.2.2.1)))) 35 [some (.ref x), some (.int (nI (bs (fun k => decide (zs_lv K.2.2.1 ((2 ^ K.2.2.1.2.2.1.length - 1) ^^^ 2 ^ k) = [])) i))), some (.int (nI i))] [] h1 C S) (n := K.2.2.1.2.2.1.length) ?_ ?_ h1 _ _ (by omega) (by omega) g2
      · intro h2 C S _ _ w3
        have k2 := k.ext w3
        obtain ⟨fs, b, hx1, h5, hb⟩ := k2.kb e
        obtain ⟨-, t0, l0, r0, u0, hb5, hli, hra, -⟩ := id hb
        exact vX1_spare_35 (gQ1 hx1 (x := some b) h5 ⟨b, rfl, gR1 hb5 rfl (lo_size hra (by decide) ⟨fun _ => u_well k2 (by decide) fun h' z1 z2 => pk_of z1 ((hx0 w3).t z2), fun c => absurd (Int32.le_refl _) c⟩)⟩)
      · intro i hi ih h2 C S w1 w2 w3
        have k2 := k.ext w3
        obtain ⟨fs, b, hx1, h5, hb⟩ := k2.kb e
        obtain ⟨-, t0, l0, r0, u0, hb5, hli, hra, -⟩ := id hb
        have ea : (K.2.2.1.2.2.1.length - i) = (K.2.2.1.2.2.1.length - (i + 1)) + 1 := by omega
        rw [ea] at w1 w2
        refine vX1_spare_35 (gQ1 hx1 (x := some b) h5 ⟨b, rfl, gR1 hb5 rfl (lo_size hra (by decide) ⟨fun c => ?_, fun _ => ⟨_, hx1, ?_⟩⟩)⟩)
        · rw [nI_leI (by omega) (by omega)] at c
          omega
        · rw [nI_shl (by omega)]
          refine wq_cq.use (by decide) (by omega) (by omega) (c_coloured k2 (ki.hx w3 fun _ z => z.elim) dk e (2 ^ i) false) ?_
          rintro r h3 ⟨a3, sq3, li3, rfl, g3, g4⟩
          rw [th_1 hi, ctf_1] at g3
          have ih := ih h3 (C - 414) (S - 2060) (by omega) (by omega) (w3.t g4)
          refine ⟨a3, rfl, gI1 g3 rfl ?_⟩
          rw [nI_1]
          by_cases c2 : zs_lv K.2.2.1 ((2 ^ K.2.2.1.2.2.1.length - 1) ^^^ 2 ^ i) = []
          · rw [if_pos c2]
            refine ⟨fun z => absurd rfl z, fun _ => ?_⟩
            rw [bs_s, if_pos (by simp [c2])] at ih
            rw [nI_or]
            exact ih
          · rw [if_neg c2]
            refine ⟨fun _ => ?_, fun z => absurd z (by decide)⟩
            rw [bs_s, if_neg (by simp [c2])] at ih
            rw [nI_lit 0, nI_or, Nat.or_zero]
            exact ih
    · simp only [if_neg c]
      refine ⟨fun z => absurd z (by decide), fun _ => ?_⟩
      exact u_well (k.ext g2) (by decide) fun h' z1 z2 => pk_of z1 ((hx0 g2).t z2)
theorem c_critical (k : cd G h Z x D) (ki : kin G h) (dk : dok D) : wq_C G l 31 7866 39140 mX1_critical [.ref x] h (wq_qi (pk G Z x h (dk_t D (qK D 1 fun K => if zs_lv K.2.2.1 (2 ^ K.2.2.1.2.2.1.length - 1) = [] then 0 else 6)) (qK D (-1) fun K => if zs_lv K.2.2.1 (2 ^ K.2.2.1.2.2.1.length - 1) = [] then nI (zs_crit K.2.2.1 K.2.2.1.2.2.1.length) else -1))) := by
  cases e : D.2.2.2.2.2 with
  | none =>
    rw [qK_n e, qK_n e]
    exact wq_C.of pn_X1 (Nat.le_of_ble_eq_true rfl) rfl (vX1_critical_0 (k.n e (none_k (u_refused k (by decide) (by decide) fun h' => pk_of))))
  | some K =>
    rw [qK_k e, qK_k e]
    obtain ⟨fs0, b0, hx0', h50, -⟩ := k.kb e
    have hB := (dk.2.2 K e).2.1
    have h18 := hB.2.2.2.1
    refine wq_C.of pn_X1 (Nat.le_of_ble_eq_true rfl) rfl (vX1_critical_0 (gQ1 hx0' (x := some b0) h50 (some_k ⟨_, hx0', wq_cq.use (by decide) (by omega) (by omega) (c_coloured k ki dk e 0 false) ?_⟩)))
    rintro r h1 ⟨a, sq, li, rfl, g1, g2⟩
    rw [th_0, ctf_1] at g1
    refine ⟨a, rfl, gI1 g1 rfl ?_⟩
    by_cases c : zs_lv K.2.2.1 (2 ^ K.2.2.1.2.2.1.length - 1) = []
    · simp only [if_pos c]
      refine ⟨fun _ => ?_, fun z => absurd (by decide) z⟩
      have st : wq_T G l 31 mX1_critical (wq_qi (pk G Z x h (dk_t D 0) (nI (zs_crit K.2.2.1 K.2.2.1.2.2.1.length)))) 36 [some (.ref x), some (.int (nI (ot K.2.2.1 0))), some (.int (nI 0))] [] h1 (7866 - 414) (39140 - 2060) := by
        refine down (P := fun i => ∀ h1 C S, (K.2.2.1.2.2.1.length - i) * 414 ≤ C → (K.2.2.1.2.2.1.length - i) * 2060 ≤ S → hx (fun _ => False) h h1 → wq_T G l 31 mX1_critical (wq_qi (pk G Z x h (dk_t D 0) (nI (zs_crit K.2.2.1 K.2.2.1.2.2.1.length)))) 36 [some (.ref x), some (.int (nI (ot K.2.2.1 i))), some (.int (nI i))] [] h1 C S) (n := K.2.2.1.2.2.1.length) ?_ ?_ h1 _ _ (by omega) (by omega) g2
        · intro h2 C S _ _ w3
          have k2 := k.ext w3
          obtain ⟨fs, b, hx1, h5, hb⟩ := k2.kb e
          obtain ⟨-, t0, l0, r0, u0, hb5, hli, hra, -⟩ := id hb
          refine vX1_critical_36 (gQ1 hx1 (x := some b) h5 ⟨b, rfl, gR1 hb5 rfl (lo_size hra (by decide) ⟨fun _ => gQ1 hx1 (x := some b) h5 ⟨b, rfl, gR1 hb5 rfl (lo_size hra (by decide) ⟨_, hx1, ?_⟩)⟩, fun c => absurd (Int32.le_refl _) c⟩)⟩)
          rw [nI_shl (by omega), nI_sub1 Nat.one_le_two_pow, th_eq h18, ot_th (Nat.le_refl _)]
          obtain ⟨fs', y1, y2⟩ := u_well (l := l) (d := 31) (C := C) (S := S) (v := nI (zs_crit K.2.2.1 K.2.2.1.2.2.1.length)) k2 (by decide) (F := fun y h' _ _ => pk G Z x h (dk_t D 0) (nI (zs_crit K.2.2.1 K.2.2.1.2.2.1.length)) y h') fun h' z1 z2 => pk_of z1 ((hx0 w3).t z2)
          exact y2
        · intro i hi ih h2 C S w1 w2 w3
          have k2 := k.ext w3
          obtain ⟨fs, b, hx1, h5, hb⟩ := k2.kb e
          obtain ⟨-, t0, l0, r0, u0, hb5, hli, hra, -⟩ := id hb
          have ea : (K.2.2.1.2.2.1.length - i) = (K.2.2.1.2.2.1.length - (i + 1)) + 1 := by omega
          rw [ea] at w1 w2
          refine vX1_critical_36 (gQ1 hx1 (x := some b) h5 ⟨b, rfl, gR1 hb5 rfl (lo_size hra (by decide) ⟨fun c => ?_, fun _ => ⟨_, hx1, ?_⟩⟩)⟩)
          · rw [nI_leI (by omega) (by omega)] at c
            omega
          · rw [nI_shl (by omega), nI_or]
            refine wq_cq.use (by decide) (by omega) (by omega) (c_coloured k2 (ki.hx w3 fun _ z => z.elim) dk e (ot K.2.2.1 i ||| 2 ^ i) false) ?_
            rintro r h3 ⟨a3, sq3, li3, rfl, g3, g4⟩
            rw [ot_or hi, ctf_1] at g3
            have ih := ih h3 (C - 414) (S - 2060) (by omega) (by omega) (w3.t g4)
            refine ⟨a3, rfl, gI1 g3 rfl ?_⟩
            rw [nI_1]
            rw [ot_s hi] at ih
            by_cases c2 : zs_lv K.2.2.1 (zs_crit K.2.2.1 i ^^^ 2 ^ i) = []
            · rw [if_pos c2] at ih ⊢
              exact ⟨fun z => absurd rfl z, fun _ => ih⟩
            · rw [if_neg c2] at ih ⊢
              exact ⟨fun _ => ih, fun z => absurd z (by decide)⟩
      rw [ot_0] at st
      exact st
    · simp only [if_neg c]
      refine ⟨fun z => absurd z (by decide), fun _ => ?_⟩
      exact u_refused (k.ext g2) (by decide) (by decide) fun h' z1 z2 => pk_of z1 ((hx0 g2).t z2)
end CP17
