/-! CONTRACTS of the component: colours: Integers; the list of corners; what it costs -/
set_option maxRecDepth 100000
theorem pn_J13 : plainName RJ13 = true := by decide +kernel
theorem pn_J14 : plainName RJ14 = true := by decide +kernel
theorem pn_X15 : plainName RX15 = true := by decide +kernel
/-- the small Integers -/
def kin (G : wq_G) (h : wq_H) : Prop := G.2.2.2.2 1 < G.1 ∧ ∃ f : Nat → Option Nat, h (G.2.2.2.2 1) = some (.inl (G.2.2.1 4, 256, wq_ra f)) ∧ ∀ i, i < 256 → ∃ p, f i = some p ∧ p < G.1 ∧ h p = some (.inr (19, [.int (iI ((i : Int) - 128))]))
theorem kin.hx {G : wq_G} {P : Nat → Prop} {h h' : wq_H} (k : kin G h) (q : hx P h h') (hP : ∀ b, P b → G.1 ≤ b) : kin G h' := by
  obtain ⟨z, f, k1, k2⟩ := k
  refine ⟨z, f, q.1 _ _ (fun y => by have := hP _ y; omega) k1, fun i hi => ?_⟩
  obtain ⟨p, w1, w2, w3⟩ := k2 i hi
  exact ⟨p, w1, w2, q.1 _ _ (fun y => by have := hP _ y; omega) w3⟩
/-- how many times a list of so many has grown, and by what -/
def jj (n : Nat) : Nat := cnt (fun j => decide (cs j < n)) 12
def sl (n : Nat) : Nat := fo (fun j s => s + cs (j + 1)) (jj n) 0
def cc (n : Nat) : Nat := n + jj n
def sc (n : Nat) : Nat := n + sl n
theorem jj_ok : ∀ n, n ≤ 400 → n ≤ cs (jj n) ∧ jj n ≤ 11 ∧ (n = cs (jj n) → jj (n + 1) = jj n + 1 ∧ sl (n + 1) = sl n + cs (jj n + 1) ∧ jj n ≤ 10) ∧ (n < cs (jj n) → jj (n + 1) = jj n ∧ sl (n + 1) = sl n) := by decide +kernel
theorem cc_s : ∀ n, n < 400 → cc n + 1 ≤ cc (n + 1) ∧ sc n + 1 ≤ sc (n + 1) := by decide +kernel
theorem cc_400 : cc 400 = 411 ∧ sc 400 = 2033 ∧ cc 0 = 0 ∧ sc 0 = 0 ∧ jj 0 = 0 := by decide +kernel
theorem cc_le : ∀ d n, n + d ≤ 400 → cc n ≤ cc (n + d) ∧ sc n ≤ sc (n + d) := by
  intro d
  induction d with
  | zero => intro n _; exact ⟨Nat.le_refl _, Nat.le_refl _⟩
  | succ d ih =>
    intro n hn
    have h1 := ih n (by omega)
    have h2 := cc_s (n + d) (by omega)
    rw [← Nat.add_assoc]
    omega
/-- a list of Integers, that has grown as it must -/
def ci_at (G : wq_G) (h : wq_H) (P : Nat → Prop) (li : Nat) (acc : List Nat) : Prop := ∃ es : List Nat, al_j G h P li es (jj acc.length) ∧ es.length = acc.length ∧ ∀ (k p v : Nat), es[k]? = some p → acc[k]? = some v → h p = some (.inr (19, [.int (nI v)]))
theorem ci_at.set13 {G : wq_G} {h : wq_H} {P : Nat → Prop} {li a : Nat} {acc : List Nat} {fs : List Value} {e : va_E} (k : ci_at G h P li acc) (hk : kon G h) (hz : G.1 ≤ a) (ha : h a = some (.inr (13, fs))) : ci_at G (wq_set h a e) P li acc := by
  obtain ⟨es, k1, k2, k3⟩ := k
  have hx0 : hx (fun b => b = a) h (wq_set h a e) := hx.set (Or.inl rfl)
  refine ⟨es, (k1.kind.frame (hk.hx hx0 fun b hb => by rw [hb]; exact hz) fun b e' hb he => hx0.1 b e' (fun z => ?_) he).mono fun b hb => hb.1, k2, fun k p v h1 h2 => ?_⟩
  · rw [z, ha] at hb
    rcases hb.2 with ⟨f, y⟩ | ⟨c, n, f, y⟩ <;> cases y
  · rw [wq_set_ne]
    · exact k3 k p v h1 h2
    · intro z
      have := k3 k p v h1 h2
      rw [z, ha] at this
      cases this
/-- bits of a number that is told of there -/
theorem hbt_n : ∀ n j, j < 32 → bt (nI n) j = n.testBit j := by
  intro n j hj
  show (BitVec.ofNat 32 n).getLsbD j = _
  rw [BitVec.getLsbD_ofNat]
  simp [hj]
theorem told_iff {y a b : Nat} (hy : y < 2 ^ 31) : (nI y &&& ((nI a ||| (nI b ^^^ (-1))) ^^^ (-1))) = 0 ↔ ∀ k, k < 31 → y.testBit k = true → b.testBit k = true → a.testBit k = true := by
  constructor
  · intro h k hk hyk hbk
    have h1 := congrArg (fun x => bt x k) h
    simp only [b_and, b_or, b_xor, b_m1 k (by omega), b_0, hbt_n y k (by omega), hbt_n a k (by omega), hbt_n b k (by omega), hyk, hbk] at h1
    simpa using h1
  · intro h
    refine b_ext fun k hk => ?_
    rw [b_and, b_xor, b_or, b_xor, b_m1 k hk, b_0, hbt_n y k hk, hbt_n a k hk, hbt_n b k hk]
    by_cases e : k < 31
    · cases h1 : y.testBit k with
      | false => simp
      | true =>
        cases h2 : b.testBit k with
        | false => simp
        | true => simp [h k e h1 h2]
    · have : y.testBit k = false := Nat.testBit_lt_two_pow (Nat.lt_of_lt_of_le hy (Nat.pow_le_pow_right (by omega) (by omega)))
      simp [this]
/-- the rays that are there -/
def th (n w : Nat) : Nat := bs (fun k => !w.testBit k) n
theorem th_eq {n w : Nat} (hn : n ≤ 18) : nI (2 ^ n - 1) &&& (nI w ^^^ (-1)) = nI (th n w) := by
  refine b_ext fun i hi => ?_
  rw [b_and, b_xor, b_m1 i hi, hbt_n _ i hi, hbt_n _ i hi, hbt_n _ i hi, th, bs_bit, Nat.testBit_two_pow_sub_one]
  cases w.testBit i <;> simp
theorem th_bit {n w k : Nat} : (th n w).testBit k = (decide (k < n) && !w.testBit k) := bs_bit _ _ _
theorem th_lt {n w : Nat} : th n w < 2 ^ n := bs_lt _ _
/-- square rays, both of them there -/
def re2 (B : zs_B) (t i j : Nat) : Bool := re B i j && (t.testBit i && t.testBit j)
def sm2 (B : zs_B) (t i : Nat) : Nat := bs (re2 B t i) B.2.2.1.length
abbrev cor2 (B : zs_B) (t : Nat) : List Nat := cor (re2 B t) B.2.2.1.length
theorem cor2_le {L : Nat} {B : zs_B} (hB : zs_bok L B) (t : Nat) : (cor2 B t).length ≤ 400 := by
  refine cor_le hB _ (fun i j h => ?_) (fun i j => ?_)
  · simp only [re2, Bool.and_eq_true] at h; exact h.1
  · simp only [re2, re_comm B i j, Bool.and_comm]
section CP14
variable {G : wq_G} {l : Launch} {d C S : Nat} {h : wq_H} {P : Nat → Prop} {L : Nat} {B : zs_B}
theorem c_valueOf {v : Nat} (hv : v < 2 ^ 31) (ki : kin G h) : wq_C G l 3 1 1 mJ14_valueOf [.int (nI v)] h (wq_qq fun r h' => ∃ p, r = some p ∧ h' p = some (.inr (19, [.int (nI v)])) ∧ hx (fun _ => False) h h') := by
  have n1 : ¬ nI v < -128 := by
    rw [Int32.lt_iff_toInt_lt, nI_toInt hv, show (-128 : Int32).toInt = -128 by decide]
    omega
  refine wq_C.of pn_J14 (Nat.le_of_ble_eq_true rfl) rfl (vJ14_valueOf_0 ⟨fun c => absurd c n1, fun _ => ⟨fun c => ⟨by omega, by omega, fun q hq zq => ?_⟩, fun c => ?_⟩⟩)
  · refine wq_cw.use (by decide) (Nat.zero_le _) (Nat.zero_le _) (wq_C.of (d := 2) (mc := 0) (ms := 0) (Q := wq_qv fun h' => h' = wq_set h q (.inr (19, [.int (nI v)]))) pn_J14 (Nat.le_of_ble_eq_true rfl) rfl (vJ14_init_0 (wq_cw.eq (by decide) (wq_C.of (d := 1) pn_J13 (Nat.le_of_ble_eq_true rfl) rfl (vJ13_init_0 (by decide) rfl)) (pf1 wq_set_eq zq (by simp) (by rw [wq_set_set]; rfl))))) ?_
    rintro h' rfl
    exact ⟨q, rfl, wq_set_eq, hx.set (Or.inr hq)⟩
  · rw [nI_lit 127, nI_ltI (by omega) hv] at c
    obtain ⟨z, f, k1, k2⟩ := ki
    obtain ⟨p, w1, w2, w3⟩ := k2 (v + 128) (by omega)
    have e1 : nI v + 128 = nI (v + 128) := by rw [nI_lit 128, nI_add]
    refine ⟨256, f, k1, z, by rw [e1]; exact vp_in_nI (by omega) (by omega), ?_⟩
    rw [e1, nI_clamp (by omega), w1]
    refine ⟨p, rfl, ?_, hx.refl⟩
    rw [w3, nI_iI, show (((v + 128 : Nat) : Int) - 128) = (v : Int) by omega]
/-- a corner more -/
theorem u_corner (ki : kin G h) (hk : kon G h) {li : Nat} {acc : List Nat} (k : ci_at G h P li acc) (hP : ∀ b, P b → G.1 ≤ b) (hsub : ∀ b, nw G h b → P b) (hl : acc.length < 400) {v : Nat} (hv : v < 2 ^ 31) (hd : 6 < d) (hC : cc (acc.length + 1) - cc acc.length ≤ C) (hS : sc (acc.length + 1) - sc acc.length ≤ S) {F : wq_H → Nat → Nat → Prop} (K : ∀ (h' : wq_H) (C' S' : Nat), C - (cc (acc.length + 1) - cc acc.length) ≤ C' → S - (sc (acc.length + 1) - sc acc.length) ≤ S' → ci_at G h' P li (acc ++ [v]) → hx (fun b => P b ∧ lk (h b)) h h' → F h' C' S') : wq_cq G l d C S mJ14_valueOf [.int (nI v)] h (fun r h9 C10 S11 => ∃ fs : List Value, h9 li = some (.inr (16, fs)) ∧ wq_ci G l d C10 S11 mJ2_add [.ref li, va_rf r] h9 (fun _ h' C' S' => F h' C' S')) := by
  obtain ⟨j1, j2, j3, j4⟩ := jj_ok acc.length (by omega)
  obtain ⟨s1, s2⟩ := cc_s acc.length hl
  have c1 : 1 ≤ C := by omega
  have c2 : 1 ≤ S := by omega
  refine wq_cq.use (by omega) c1 c2 (c_valueOf hv ki) ?_
  rintro r h1 ⟨p, rfl, g1, g2⟩
  obtain ⟨es, k1, k2, k3⟩ := k
  have hk1 := hk.hx g2 fun _ z => z.elim
  have k1' : al_j G h1 (fun b => P b ∧ lk (h1 b)) li es (jj acc.length) := (k1.frame hk1 fun b e _ he => g2.1 b e id he).kind
  have obs : ∀ y ∈ es, ob h1 y := by
    intro y hy
    obtain ⟨i, hi⟩ := List.getElem?_of_mem hy
    have hi2 := (List.getElem?_eq_some_iff.mp hi).1
    have := k3 i y acc[i] hi (List.getElem?_eq_getElem (by omega))
    exact ⟨_, _, g2.1 _ _ id this⟩
  obtain ⟨m, ba, f, p1, p2, -⟩ := id k1'
  have lift : ∀ h', hx (fun b => P b ∧ lk (h1 b)) h1 h' → hx (fun b => P b ∧ lk (h b)) h h' := by
    intro h' y
    refine (hx0 (P := fun b => P b ∧ lk (h b)) g2).trans y fun b hb => ?_
    have hb : P b ∧ lk (h1 b) := hb
    show (P b ∧ lk (h b)) ∨ h b = none
    cases z : h b with
    | none => exact Or.inr rfl
    | some e => rw [g2.1 _ _ id z] at hb; exact Or.inl hb
  have vals : ∀ h', hx (fun b => P b ∧ lk (h1 b)) h1 h' → ∀ (k p' w : Nat), (es ++ [p])[k]? = some p' → (acc ++ [v])[k]? = some w → h' p' = some (.inr (19, [.int (nI w)])) := by
    intro h' y k p' w h2 h3
    have no : ∀ {q : Nat} {fs : List Value}, h1 q = some (.inr (19, fs)) → h' q = some (.inr (19, fs)) := by
      intro q fs hq
      refine y.1 _ _ (fun z => ?_) hq
      have z : P q ∧ lk (h1 q) := z
      rw [hq] at z
      rcases z.2 with ⟨f, z⟩ | ⟨c, n, f, z⟩ <;> cases z
    by_cases c : k < es.length
    · rw [List.getElem?_append_left c] at h2
      rw [List.getElem?_append_left (by omega)] at h3
      exact no (g2.1 _ _ id (k3 k p' w h2 h3))
    · have hk3 := (List.getElem?_eq_some_iff.mp h2).1
      rw [List.length_append] at hk3
      simp at hk3
      have ek : k = es.length := by omega
      rw [ek, List.getElem?_append_right (Nat.le_refl _), Nat.sub_self] at h2
      rw [ek, k2, List.getElem?_append_right (Nat.le_refl _), Nat.sub_self] at h3
      cases h2
      cases h3
      exact no g1
  refine ⟨_, p2, ?_⟩
  have la : (acc ++ [v]).length = acc.length + 1 := by simp
  have le : (es ++ [p]).length = acc.length + 1 := by simp [k2]
  by_cases c : acc.length < cs (jj acc.length)
  · obtain ⟨e1, e2⟩ := j4 c
    refine wq_ci.use hd (Nat.zero_le _) (Nat.zero_le _) (c_add0 k1' (fun b hb => hP b hb.1) (by rw [k2]; exact c) ⟨_, _, g1⟩) ?_
    rintro y h2 ⟨-, q1, q2⟩
    refine K h2 _ _ (by unfold cc at *; omega) (by unfold sc at *; omega) ⟨es ++ [p], ?_, by rw [le, la], vals h2 q2⟩ (lift h2 q2)
    rw [la, e1]
    exact q1.mono fun b hb => hb.1
  · obtain ⟨e1, e2, e3⟩ := j3 (by omega)
    have w1 : 1 ≤ C - 1 := by unfold cc at *; omega
    have w2 : cs (jj acc.length + 1) ≤ S - 1 := by unfold sc at *; omega
    refine wq_ci.use hd w1 w2 (c_add1 k1' (fun b hb => hP b hb.1) (by omega) e3 obs ⟨_, _, g1⟩) ?_
    rintro y h2 ⟨-, q, q0, q00, q1, q2⟩
    refine K h2 _ _ (by unfold cc at *; omega) (by unfold sc at *; omega) ⟨es ++ [p], ?_, by rw [le, la], vals h2 q2⟩ (lift h2 q2)
    rw [la, e1]
    refine q1.mono fun b hb => ?_
    rcases hb with z | z
    · exact z.1
    · rw [z]
      exact hsub _ (nw_up g2 _ ⟨q0, q00⟩)
/-- the colouring's object -/
abbrev co_l (n t sq li : Nat) (c o : Int32) : List Value := [.int (nI n), .int (nI t), .ref sq, .ref li, .int c, .int o]
/-- rays that are square to two, and to one another: the corners behind -/
theorem c_findsCorners (ki : kin G h) (hk : kon G h) {a n t sq li i j : Nat} {c o : Int32} {acc : List Nat} {f : Nat → Int32} {e : Nat → Nat → Bool} (ha : h a = some (.inr (13, co_l n t sq li c o))) (hn : n ≤ 18) (hs : h sq = some (.inl (G.2.2.1 0, 18, .inl f))) (hf : ∀ i, i < n → f i = nI (bs (e i) n)) (k : ci_at G h P li acc) (hP : ∀ b, P b → G.1 ≤ b) (hsub : ∀ b, nw G h b → P b) (hi : i < n) (hj : j < n) (hl : acc.length + (cC e n i j (n - (j + 1)) (j + 1)).length ≤ 400) : wq_C G l 7 (cc (acc.length + (cC e n i j (n - (j + 1)) (j + 1)).length) - cc acc.length) (sc (acc.length + (cC e n i j (n - (j + 1)) (j + 1)).length) - sc acc.length) mX15_findsCorners [.ref a, .int (nI i), .int (nI j)] h (wq_qv fun h' => ci_at G h' P li (acc ++ cC e n i j (n - (j + 1)) (j + 1)) ∧ hx (fun b => P b ∧ lk (h b)) h h') := by
  have p18 := pow_9 hn
  have bl : ∀ i, bs (e i) n < 2 ^ 18 := fun i => Nat.lt_of_lt_of_le (bs_lt _ _) p18
  have bb : ∀ i k, k < n → (bs (e i) n).testBit k = e i k := fun i k hk => by rw [bs_bit]; simp [hk]
  have sl1 : ¬ lk (h sq) := by rw [hs]; rintro (⟨f, z⟩ | ⟨c, n, f, z⟩) <;> cases z
  have al1 : ¬ lk (h a) := by rw [ha]; rintro (⟨f, z⟩ | ⟨c, n, f, z⟩) <;> cases z
  refine wq_C.of pn_X15 (Nat.le_of_ble_eq_true rfl) rfl (vX15_findsCorners_0 (gR1 ha rfl (ai_n hs i rfl (by omega) (by omega) (gR1 ha rfl (ai_n hs j rfl (by omega) (by omega) ?_)))))
  rw [hf i hi, hf j hj, nI_and, nI_1]
  generalize hall : acc ++ cC e n i j (n - (j + 1)) (j + 1) = all
  have hal : all.length = acc.length + (cC e n i j (n - (j + 1)) (j + 1)).length := by rw [← hall, List.length_append]
  rw [← hal] at hl ⊢
  have outer : ∀ m k acc1 h1 C S, k + m = n → acc1 ++ cC e n i j m k = all → ci_at G h1 P li acc1 → hx (fun b => P b ∧ lk (h b)) h h1 → cc all.length - cc acc1.length ≤ C → sc all.length - sc acc1.length ≤ S → wq_T G l 7 mX15_findsCorners (wq_qv fun h' => ci_at G h' P li all ∧ hx (fun b => P b ∧ lk (h b)) h h') 19 [some (.ref a), some (.int (nI i)), some (.int (nI j)), some (.int (nI (bs (e i) n &&& bs (e j) n))), some (.int (nI k)), none] [] h1 C S := by
    intro m
    induction m with
    | zero =>
      intro k acc1 h1 C S hkm hacc q1 q2 hC hS
      obtain rfl : k = n := by omega
      have ha1 := q2.1 _ _ (fun z => al1 z.2) ha
      rw [cC, List.append_nil] at hacc
      exact vX15_findsCorners_19 (gI1 ha1 rfl ⟨fun _ => ⟨by rw [← hacc]; exact q1, q2⟩, fun c => absurd (Int32.le_refl _) c⟩)
    | succ m ih =>
      intro k acc1 h1 C S hkm hacc q1 q2 hC hS
      have ha1 := q2.1 _ _ (fun z => al1 z.2) ha
      have hkn : k < n := by omega
      rw [cC] at hacc
      refine vX15_findsCorners_19 (gI1 ha1 rfl ⟨fun c => ?_, fun _ => wq_ci.eq (by decide) (c_has (Nat.lt_of_le_of_lt Nat.and_le_left (by have := bl i; omega)) (by omega)) ?_⟩)
      · rw [nI_leI (by omega) (by omega)] at c
        omega
      rw [b2i_0, Nat.testBit_and, bb i k hkn, bb j k hkn]
      refine ⟨fun c => ?_, fun c => ?_⟩
      · rw [Bool.not_eq_false] at c
        rw [if_pos c] at hacc
        rw [nI_1]
        have inner : ∀ m2 x acc1 h1 C S, x + m2 = n → acc1 ++ (cD e i j k m2 x ++ cC e n i j m (k + 1)) = all → ci_at G h1 P li acc1 → hx (fun b => P b ∧ lk (h b)) h h1 → cc all.length - cc acc1.length ≤ C → sc all.length - sc acc1.length ≤ S → wq_T G l 7 mX15_findsCorners (wq_qv fun h' => ci_at G h' P li all ∧ hx (fun b => P b ∧ lk (h b)) h h') 46 [some (.ref a), some (.int (nI i)), some (.int (nI j)), some (.int (nI (bs (e i) n &&& bs (e j) n))), some (.int (nI k)), some (.int (nI x))] [] h1 C S := by
          intro m2
          induction m2 with
          | zero =>
            intro x acc1 h1 C S hx2 hacc q1 q2 hC hS
            obtain rfl : x = n := by omega
            have ha1 := q2.1 _ _ (fun z => al1 z.2) ha
            rw [cD, List.nil_append] at hacc
            refine vX15_findsCorners_46 (gI1 ha1 rfl ⟨fun _ => ?_, fun c => absurd (Int32.le_refl _) c⟩)
            rw [nI_1]
            exact ih (k + 1) acc1 h1 C S (by omega) hacc q1 q2 hC hS
          | succ m2 ih2 =>
            intro x acc1 h1 C S hx2 hacc q1 q2 hC hS
            have ha1 := q2.1 _ _ (fun z => al1 z.2) ha
            have hs1 := q2.1 _ _ (fun z => sl1 z.2) hs
            have hxn : x < n := by omega
            rw [cD, List.append_assoc] at hacc
            refine vX15_findsCorners_46 (gI1 ha1 rfl ⟨fun c => ?_, fun _ => gR1 ha1 rfl (ai_n hs1 k rfl (by omega) (by omega) ?_)⟩)
            · rw [nI_leI (by omega) (by omega)] at c
              omega
            rw [hf k hkn, nI_and]
            refine wq_ci.eq (by decide) (c_has (Nat.lt_of_le_of_lt Nat.and_le_right (by have := bl k; omega)) (by omega)) ?_
            rw [b2i_0, Nat.testBit_and, Nat.testBit_and, bb i x hxn, bb j x hxn, bb k x hxn]
            refine ⟨fun c2 => ?_, fun c2 => ?_⟩
            · rw [if_neg (by rw [c2]; decide), List.nil_append] at hacc
              rw [nI_1]
              exact ih2 (x + 1) acc1 h1 C S (by omega) hacc q1 q2 hC hS
            · rw [Bool.not_eq_false] at c2
              rw [if_pos c2] at hacc
              rw [nI_shl (by omega), nI_shl (by omega), nI_shl (by omega), nI_shl (by omega), nI_or, nI_or, nI_or]
              have hlen : acc1.length + 1 ≤ all.length := by
                rw [← hacc]; simp
              have m4 : mk4 i j k x < 2 ^ 31 := by
                have pw : ∀ y, y < n → 2 ^ y < 2 ^ 18 := fun y hy => Nat.pow_lt_pow_right (by omega) (by omega)
                have : mk4 i j k x < 2 ^ 18 := Nat.or_lt_two_pow (Nat.or_lt_two_pow (Nat.or_lt_two_pow (pw i hi) (pw j hj)) (pw k hkn)) (pw x hxn)
                omega
              have cl := cc_le (all.length - (acc1.length + 1)) (acc1.length + 1) (by omega)
              rw [show acc1.length + 1 + (all.length - (acc1.length + 1)) = all.length by omega] at cl
              have cl0 := cc_s acc1.length (by omega)
              have hl1 : (acc1 ++ [mk4 i j k x]).length = acc1.length + 1 := by simp
              refine gR1 ha1 rfl (u_corner (ki.hx q2 fun b hb => hP b hb.1) (hk.hx q2 fun b hb => hP b hb.1) q1 hP (fun b hb => hsub b (nw_up q2 b hb)) (by omega) m4 (by decide) (by omega) (by omega) fun h2 C' S' w1 w2 w3 w4 => ?_)
              rw [nI_1]
              refine ih2 (x + 1) (acc1 ++ [mk4 i j k x]) h2 C' S' (by omega) (by rw [← hacc, List.append_assoc]) w3 (q2.trans w4 fun b hb => ?_) (by rw [hl1]; omega) (by rw [hl1]; omega)
              cases z : h b with
              | none => exact Or.inr rfl
              | some y =>
                left
                refine ⟨hb.1, ?_⟩
                -- what is a list's cell now was one before
                by_cases y2 : lk (h b)
                · rw [← z]; exact y2
                · rw [q2.1 b y (fun w => y2 w.2) z] at hb
                  exact hb.2
        exact inner (n - (k + 1)) (k + 1) acc1 h1 C S (by omega) hacc q1 q2 hC hS
      · rw [if_neg (by rw [c]; decide), List.nil_append] at hacc
        rw [nI_1]
        exact ih (k + 1) acc1 h1 C S (by omega) hacc q1 q2 hC hS
  exact outer (n - (j + 1)) (j + 1) acc h _ _ (by omega) hall k hx.refl (Nat.le_refl _) (Nat.le_refl _)
end CP14
