/-! CONTRACTS of the component: colours, second -/
set_option maxRecDepth 100000
theorem mem_cor2 {B : zs_B} {t x : Nat} : x ∈ cor2 B t ↔ x ∈ zs_cor B ∧ ∀ k, x.testBit k = true → t.testBit k = true := by
  unfold cor2 zs_cor
  rw [mem_cor, mem_cor]
  constructor
  · rintro ⟨a, b, c, d, h1, h2, h3, h4, h5, h6, h7, h8, h9, h10, h11⟩
    simp only [re2, Bool.and_eq_true] at h5 h6 h7 h8 h9 h10
    refine ⟨⟨a, b, c, d, h1, h2, h3, h4, h5.1, h6.1, h7.1, h8.1, h9.1, h10.1, h11⟩, fun k hk => ?_⟩
    rw [h11, tb4] at hk
    rcases hk with z | z | z | z <;> rw [z]
    · exact h5.2.1
    · exact h5.2.2
    · exact h7.2.2
    · exact h8.2.2
  · rintro ⟨⟨a, b, c, d, h1, h2, h3, h4, h5, h6, h7, h8, h9, h10, h11⟩, ht⟩
    have ta := ht a (by rw [h11, tb4]; simp)
    have tb := ht b (by rw [h11, tb4]; simp)
    have tc := ht c (by rw [h11, tb4]; simp)
    have td := ht d (by rw [h11, tb4]; simp)
    refine ⟨a, b, c, d, h1, h2, h3, h4, ?_, ?_, ?_, ?_, ?_, ?_, h11⟩
    all_goals simp [re2, *]
theorem cor_lt2 {e : Nat → Nat → Bool} {n x : Nat} (h : x ∈ cor e n) : x < 2 ^ n := by
  obtain ⟨a, b, c, d, h1, h2, h3, h4, -, -, -, -, -, -, h11⟩ := mem_cor.mp h
  rw [h11]
  have pw : ∀ y, y < n → 2 ^ y < 2 ^ n := fun y hy => Nat.pow_lt_pow_right (by omega) hy
  exact Nat.or_lt_two_pow (Nat.or_lt_two_pow (Nat.or_lt_two_pow (pw a (by omega)) (pw b (by omega))) (pw c (by omega))) (pw d h4)
theorem gd_eq {L : Nat} {B : zs_B} (hB : zs_bok L B) (t set ray : Nat) : gd B t set ray = (cor2 B t).all (fun m => !(subB m (2 ^ ray - 1)) || decide (m &&& set ≠ 0)) := by
  have h18 := hB.2.2.2.1
  have sub : ∀ m, m ∈ zs_cor B → ((∀ k, m.testBit k = true → t.testBit k = true) ↔ subB m t = true) := by
    intro m hm
    have hl := cor_lt2 hm
    rw [subB_iff]
    constructor
    · intro h k _ hk; exact h k hk
    · intro h k hk
      refine h k ?_ hk
      rcases Nat.lt_or_ge k 31 with z | z
      · exact z
      · rw [Nat.testBit_lt_two_pow (Nat.lt_of_lt_of_le hl (Nat.pow_le_pow_right (by omega) (by omega)))] at hk; cases hk
  unfold gd
  rw [Bool.eq_iff_iff, List.all_eq_true, List.all_eq_true]
  constructor
  · intro h m hm
    obtain ⟨h1, h2⟩ := mem_cor2.mp hm
    have := h m h1
    rw [(sub m h1).mp h2, Bool.true_and] at this
    exact this
  · intro h m hm
    by_cases c : subB m t = true
    · have := h m (mem_cor2.mpr ⟨hm, (sub m hm).mpr c⟩)
      rw [c, Bool.true_and]
      exact this
    · simp only [Bool.not_eq_true] at c
      simp [c]
/-- what counting makes of a number of colours and the most ones -/
def ctf (al : Bool) (lvs : List Nat) (q : Nat × Option Nat) : Nat × Option Nat := lvs.foldl (fun q x => if al = false ∧ 0 < q.1 then q else (q.1 + 1, some (max (q.2.getD 0) (bc x 20)))) q
theorem ctf_app (al : Bool) (l1 l2 : List Nat) (q : Nat × Option Nat) : ctf al (l1 ++ l2) q = ctf al l2 (ctf al l1 q) := List.foldl_append ..
theorem ctf_f {l : List Nat} {q : Nat × Option Nat} (h : 0 < q.1) : ctf false l q = q := by
  induction l with
  | nil => rfl
  | cons x l ih =>
    show ctf false l (if false = false ∧ 0 < q.1 then q else _) = q
    rw [if_pos ⟨rfl, h⟩]
    exact ih
theorem ctf_le (al : Bool) : ∀ (l : List Nat) (q : Nat × Option Nat), q.1 ≤ (ctf al l q).1 ∧ (ctf al l q).1 ≤ q.1 + l.length := by
  intro l
  induction l with
  | nil => intro q; exact ⟨Nat.le_refl _, Nat.le_refl _⟩
  | cons x l ih =>
    intro q
    have h := ih (if al = false ∧ 0 < q.1 then q else (q.1 + 1, some (max (q.2.getD 0) (bc x 20))))
    have e : ctf al (x :: l) q = ctf al l (if al = false ∧ 0 < q.1 then q else (q.1 + 1, some (max (q.2.getD 0) (bc x 20)))) := rfl
    rw [e, List.length_cons]
    split at h
    · rename_i c; rw [if_pos c]; omega
    · rename_i c; rw [if_neg c]; simp only at h; omega
theorem ctf_ob (al : Bool) : ∀ (l : List Nat) (q : Nat × Option Nat), (∀ m, q.2 = some m → m ≤ 20) → ∀ m, (ctf al l q).2 = some m → m ≤ 20 := by
  intro l
  induction l with
  | nil => intro q h m hm; exact h m hm
  | cons x l ih =>
    intro q h m hm
    refine ih (if al = false ∧ 0 < q.1 then q else (q.1 + 1, some (max (q.2.getD 0) (bc x 20)))) ?_ m hm
    intro m2 hm2
    split at hm2
    · exact h m2 hm2
    · cases hm2
      have := bc_le x 20
      cases z : q.2 with
      | none => simp; exact this
      | some y => have := h y z; simp; omega
theorem ctf_t : ∀ (l : List Nat) (c m : Nat), ctf true l (c, some m) = (c + l.length, some (mo m l)) := by
  intro l
  induction l with
  | nil => intro c m; rfl
  | cons x l ih =>
    intro c m
    show ctf true l (if true = false ∧ 0 < c then (c, some m) else (c + 1, some (max m (bc x 20)))) = _
    rw [if_neg (by simp), ih]
    refine Prod.ext ?_ ?_
    · show c + 1 + l.length = c + (l.length + 1)
      omega
    · show some (mo (max m (bc x 20)) l) = some (mo (if m < bc x 20 then bc x 20 else m) l)
      congr 2
      split <;> omega
theorem ctf_0 (l : List Nat) : ctf true l (0, none) = (l.length, if l = [] then none else some (mo 0 l)) := by
  cases l with
  | nil => rfl
  | cons x l =>
    show ctf true l (if true = false ∧ 0 < 0 then (0, none) else (0 + 1, some (max 0 (bc x 20)))) = _
    rw [if_neg (by simp), ctf_t]
    refine Prod.ext ?_ ?_
    · show 0 + 1 + l.length = l.length + 1
      omega
    · show some (mo (max 0 (bc x 20)) l) = some (mo (if 0 < bc x 20 then bc x 20 else 0) l)
      congr 2
      split <;> omega
theorem ctf_1 (l : List Nat) : (ctf false l (0, none)).1 = if l = [] then 0 else 1 := by
  cases l with
  | nil => rfl
  | cons x l =>
    show (ctf false l (if false = false ∧ 0 < 0 then (0, none) else (0 + 1, some (max 0 (bc x 20))))).1 = _
    rw [if_neg (by simp), ctf_f (by simp)]
    simp
theorem wq_set_self {h : wq_H} {a : Nat} {e : va_E} (ha : h a = some e) : wq_set h a e = h := by
  funext b
  by_cases c : b = a
  · rw [c, wq_set_eq, ha]
  · rw [wq_set_ne c]
section CP15
variable {G : wq_G} {l : Launch} {d C S : Nat} {h : wq_H} {P : Nat → Prop} {L N : Nat} {B : zs_B}
theorem c_isGood {a t sq li set ray : Nat} {c o : Int32} (hB : zs_bok L B) (ha : h a = some (.inr (13, co_l B.2.2.1.length t sq li c o))) (k : ci_at G h P li (cor2 B t)) (hset : set < 2 ^ 18) (ht : t < 2 ^ 18) (hr : ray ≤ 18) : wq_C G l 3 0 0 mX15_isGood [.ref a, .int (nI set), .int ((nI (2 ^ ray) - 1) ||| (nI t ^^^ (-1)))] h (wq_qi fun r h' => r = b2i (gd B t set ray) ∧ h' = h) := by
  have h18 := hB.2.2.2.1
  have c400 := cor2_le hB t
  obtain ⟨es, k1, k2, k3⟩ := k
  obtain ⟨ba, hat⟩ := k1.at
  have hsz := c_size (l := l) hat
  obtain ⟨m0, n0, f0, q1, -⟩ := id hat
  rw [nI_sub1 Nat.one_le_two_pow]
  rw [gd_eq hB]
  refine wq_C.of pn_X15 (Nat.le_of_ble_eq_true rfl) rfl (vX15_isGood_0 ?_)
  generalize hall : (cor2 B t).all (fun m => !(subB m (2 ^ ray - 1)) || decide (m &&& set ≠ 0)) = all
  have hall' : all = true ↔ ∀ (i x : Nat), (cor2 B t)[i]? = some x → (!(subB x (2 ^ ray - 1)) || decide (x &&& set ≠ 0)) = true := by
    rw [← hall, List.all_eq_true]
    constructor
    · intro z i x hx; exact z x (List.mem_of_getElem? hx)
    · intro z x hx
      obtain ⟨i, hi⟩ := List.getElem?_of_mem hx
      exact z i x hi
  refine down (P := fun i => (∀ (j x : Nat), j < i → (cor2 B t)[j]? = some x → (!(subB x (2 ^ ray - 1)) || decide (x &&& set ≠ 0)) = true) → wq_T G l 3 mX15_isGood (wq_qi fun r h' => r = b2i all ∧ h' = h) 2 [some (.ref a), some (.int (nI set)), some (.int (nI (2 ^ ray - 1) ||| (nI t ^^^ (-1)))), some (.int (nI i)), none] [] h 0 0) (n := (cor2 B t).length) ?_ ?_ (fun j x hj => absurd hj (Nat.not_lt_zero _))
  · intro hp
    refine vX15_isGood_2 (gR1 ha rfl ⟨_, q1, wq_ci.eq (by decide) hsz ⟨fun _ => ⟨?_, rfl⟩, fun c => ?_⟩⟩)
    · rw [hall'.mpr fun i x hx => hp i x (List.getElem?_eq_some_iff.mp hx).1 hx]; rfl
    · rw [k2] at c
      exact absurd (Int32.le_refl _) c
  · intro i hi ih hp
    have hci : (cor2 B t)[i]? = some (cor2 B t)[i] := List.getElem?_eq_getElem hi
    generalize (cor2 B t)[i] = x at hci
    have hie : i < es.length := by omega
    have hce := k3 i es[i] x (List.getElem?_eq_getElem hie) hci
    have hget := c_get (l := l) hat (List.getElem?_eq_getElem hie)
    have hmem := List.mem_of_getElem? hci
    have hxl := Nat.lt_of_lt_of_le (cor_lt2 hmem) (pow_9 h18)
    have hsub := (mem_cor2.mp hmem).2
    have te : (nI x &&& ((nI (2 ^ ray - 1) ||| (nI t ^^^ (-1))) ^^^ (-1))) = 0 ↔ subB x (2 ^ ray - 1) = true := by
      rw [told_iff (by omega), subB_iff]
      exact ⟨fun z k hk hb => z k hk hb (hsub k hb), fun z k hk hb _ => z k hk hb⟩
    have next : (!(subB x (2 ^ ray - 1)) || decide (x &&& set ≠ 0)) = true → wq_T G l 3 mX15_isGood (wq_qi fun r h' => r = b2i all ∧ h' = h) 2 [some (.ref a), some (.int (nI set)), some (.int (nI (2 ^ ray - 1) ||| (nI t ^^^ (-1)))), some (.int (nI i + 1)), none] [] h 0 0 := by
      intro z
      rw [nI_1]
      refine ih fun j y hj hy => ?_
      by_cases e : j = i
      · rw [e, hci] at hy; cases hy; exact z
      · exact hp j y (by omega) hy
    refine vX15_isGood_2 (gR1 ha rfl ⟨_, q1, wq_ci.eq (by decide) hsz ⟨fun c => ?_, fun _ => gR1 ha rfl ⟨_, q1, wq_cq.eq (by decide) hget ⟨_, 19, _, rfl, by decide, hce, ⟨_, hce, wq_ci.eq (by decide) (wq_C.of (d := 0) pn_J14 (Nat.le_of_ble_eq_true rfl) rfl (vJ14_intValue_0 (gI1 hce rfl (⟨rfl, rfl⟩ : nI x = nI x ∧ h = h)))) ⟨fun c => ?_, fun c => ⟨fun c2 => ?_, fun c2 => ⟨?_, rfl⟩⟩⟩⟩⟩⟩⟩⟩)
    · rw [k2, nI_leI (by omega) (by omega)] at c
      omega
    · refine next ?_
      have : subB x (2 ^ ray - 1) = false := by
        cases z : subB x (2 ^ ray - 1) with
        | false => rfl
        | true => exact absurd (te.mpr z) c
      rw [this]; rfl
    · rw [nI_and, nI_lit 0, nI_eq (Nat.lt_of_le_of_lt Nat.and_le_left (by omega)) (by omega)] at c2
      exact next (by simp [c2])
    · rw [nI_and, nI_lit 0, nI_eq (Nat.lt_of_le_of_lt Nat.and_le_left (by omega)) (by omega)] at c2
      have : all = false := by
        cases z : all with
        | false => rfl
        | true =>
          have := hall'.mp z i x hci
          rw [te.mp c] at this
          simp [c2] at this
      rw [this]; rfl
theorem c_maxO {w : Option Nat} {b : Nat} (hw : ∀ m, w = some m → m < 2 ^ 31) (hb : b < 2 ^ 31) : wq_C G l 0 0 0 mJ8_max [.int (on1 w), .int (nI b)] h (wq_qi fun r h' => r = on1 (some (max (w.getD 0) b)) ∧ h' = h) := by
  cases w with
  | some m => exact c_max (hw m rfl) hb
  | none =>
    have hlt : (-1 : Int32) < nI b := by
      have := nI_pos' hb
      rw [Int32.le_iff_toInt_le, Int32.toInt_zero] at this
      rw [Int32.lt_iff_toInt_lt]
      show (-1 : Int32).toInt < _
      rw [show (-1 : Int32).toInt = -1 from by decide]
      omega
    refine m_eq (m_max (-1) (nI b)) ?_
    rw [if_pos hlt]
    show nI b = nI (max 0 b)
    rw [Nat.zero_max]
theorem sub_or {set t ray : Nat} (h : ∀ k, set.testBit k = true → t.testBit k = true) (hr : t.testBit ray = true) : ∀ k, (set ||| 2 ^ ray).testBit k = true → t.testBit k = true := by
  intro k hk
  rw [Nat.testBit_or, Nat.testBit_two_pow, Bool.or_eq_true, decide_eq_true_eq] at hk
  rcases hk with z | z
  · exact h k z
  · rw [← z]; exact hr
theorem sm2_and {t set ray : Nat} (hs : set < 2 ^ B.2.2.1.length) (ht : ∀ k, set.testBit k = true → t.testBit k = true) (hr : t.testBit ray = true) : sm2 B t ray &&& set = sm B ray &&& set := by
  refine Nat.eq_of_testBit_eq fun k => ?_
  rw [Nat.testBit_and, Nat.testBit_and]
  cases z : set.testBit k with
  | false => simp
  | true =>
    have hk : k < B.2.2.1.length := by
      rcases Nat.lt_or_ge k B.2.2.1.length with y | y
      · exact y
      · rw [Nat.testBit_lt_two_pow (Nat.lt_of_lt_of_le hs (Nat.pow_le_pow_right (by omega) y))] at z; cases z
    rw [sm_bit hk, sm2, bs_bit, re2, hr, ht k z]
    simp [hk]
theorem c_counts {a t sq li : Nat} {f : Nat → Int32} (hB : zs_bok L B) (hz : G.1 ≤ a) (ht : t < 2 ^ B.2.2.1.length) (al : Bool) : ∀ (m ray set : Nat) (q : Nat × Option Nat) (h : wq_H), ray + m = B.2.2.1.length → set < 2 ^ B.2.2.1.length → (∀ k, set.testBit k = true → t.testBit k = true) → q.1 + 2 ^ m ≤ 2 ^ 20 → (∀ m, q.2 = some m → m ≤ 20) → kon G h → h a = some (.inr (13, co_l B.2.2.1.length t sq li (nI q.1) (on1 q.2))) → h sq = some (.inl (G.2.2.1 0, 18, .inl f)) → (∀ i, i < B.2.2.1.length → f i = nI (sm2 B t i)) → ci_at G h P li (cor2 B t) → wq_C G l (m + 4) 0 0 mX15_counts [.ref a, .int (nI ray), .int (nI set), .int (b2i al)] h (wq_qv fun h' => h' = wq_set h a (.inr (13, co_l B.2.2.1.length t sq li (nI (ctf al (lv B t m ray set) q).1) (on1 (ctf al (lv B t m ray set) q).2)))) := by
  have h18 := hB.2.2.2.1
  have p18 := pow_9 h18
  intro m
  induction m with
  | zero =>
    intro ray set q h hm hs hst hq hqo hk ha hsq hf hci
    have hr : ray = B.2.2.1.length := by omega
    have ob1 : ∀ m, q.2 = some m → m < 2 ^ 31 := fun m hm => by have := hqo m hm; omega
    have bl : bc set 31 = bc set 20 := bc_31 hs (by omega)
    have b20 := bc_le set 20
    have good := c_isGood (l := l) (set := set) (ray := ray) hB ha hci (by omega) (by omega) (by omega)
    have stay : ∀ {l1 : List Nat}, ctf al l1 q = q → h = wq_set h a (.inr (13, co_l B.2.2.1.length t sq li (nI (ctf al l1 q).1) (on1 (ctf al l1 q).2))) := fun z => by rw [z, wq_set_self ha]
    have body : al = true ∨ q.1 = 0 → wq_gI h a [(13, 1)] (fun y1 => ∃ fs6 : List Value, h a = some (.inr (13, fs6)) ∧ (wq_ci G l (0 + 4) 0 0 mX15_isGood [.ref a, .int (nI set), .int (((1 <<< (nI ray &&& 31)) - 1) ||| (y1 ^^^ (-1)))] h (fun y5 h2 C3 S4 => (¬ y5 = 0 → wq_gI h2 a [(13, 0)] (fun y8 => (¬ nI ray = y8 → False) ∧ (nI ray = y8 → wq_gI h2 a [(13, 4)] (fun y26 => wq_pf G h2 a [(13, 4)] (.int (y26 + 1)) (fun h27 => wq_gI h27 a [(13, 5)] (fun y28 => wq_ci G l (0 + 4) C3 S4 mX1_bits [.int (nI set)] h27 (fun y32 h29 C30 S31 => wq_ci G l (0 + 4) C30 S31 mJ8_max [.int y28, .int y32] h29 (fun y36 h33 C34 S35 => wq_pf G h33 a [(13, 5)] (.int y36) (fun h37 => h37 = wq_set h a (.inr (13, co_l B.2.2.1.length t sq li (nI (ctf al (lv B t 0 ray set) q).1) (on1 (ctf al (lv B t 0 ray set) q).2)))))))))))) ∧ (y5 = 0 → h2 = wq_set h a (.inr (13, co_l B.2.2.1.length t sq li (nI (ctf al (lv B t 0 ray set) q).1) (on1 (ctf al (lv B t 0 ray set) q).2))))))) := by
      intro hal
      refine gI1 ha rfl ⟨_, ha, ?_⟩
      rw [nI_shl (by omega)]
      refine wq_ci.eq (by omega) good ⟨fun c => ?_, fun c => ?_⟩
      · rw [b2i_0, Bool.not_eq_false] at c
        refine gI1 ha rfl ⟨fun z => z (by rw [hr]), fun _ => gI1 ha rfl (pf1 ha hz (by simp) (gI1 wq_set_eq rfl (wq_ci.eq (by omega) (c_bits (by omega)) ?_)))⟩
        rw [bl]
        refine wq_ci.eq (by omega) (c_maxO ob1 (by omega)) (pf1 wq_set_eq hz (by simp) ?_)
        have e1 : ctf al (lv B t 0 ray set) q = (q.1 + 1, some (max (q.2.getD 0) (bc set 20))) := by
          rw [lv, if_pos c]
          show (if al = false ∧ 0 < q.1 then q else _) = _
          rw [if_neg]
          rintro ⟨z1, z2⟩
          rcases hal with y | y
          · rw [z1] at y; cases y
          · omega
        rw [e1, wq_set_set, nI_1]
        rfl
      · rw [b2i_0] at c
        refine stay ?_
        rw [lv, if_neg (by rw [c]; decide)]
        rfl
    have strip : ∀ {X Y : Int32 → Prop}, wq_gI h a [(13, 1)] X → (∀ y, X y → Y y) → wq_gI h a [(13, 1)] Y := by
      rintro X Y ⟨ci, k, fs, x, z1, z2, z3, z4⟩ z
      exact ⟨ci, k, fs, x, z1, z2, z3, z x z4⟩
    have full : al = true ∨ q.1 = 0 → _ := fun hal => body hal
    refine wq_C.of pn_X15 (Nat.le_of_ble_eq_true rfl) rfl (vX15_counts_0 ⟨fun c => ?_, fun c => gI1 ha rfl ⟨fun c2 => ?_, fun c2 => ?_⟩⟩)
    · rw [b2i_0, Bool.not_eq_false] at c
      refine strip (body (Or.inl c)) ?_
      rintro y ⟨fs, z1, z2⟩
      refine ⟨fs, z1, ?_⟩
      obtain ⟨d', mc, ms, w1, w2, w3, w4⟩ := z2
      refine ⟨d', mc, ms, w1, w2, w3, w4.mono ?_⟩
      rintro r h' ⟨x, e1, e2⟩
      refine ⟨x, e1, fun z => ?_, e2.2⟩
      obtain ⟨ci, k, fs, x, z1, z2, z3, z4⟩ := e2.1 z
      exact ⟨ci, k, fs, x, z1, z2, z3, fun y => (z4.1 y).elim, z4.2⟩
    · have c2 : 0 < q.1 := by
        rw [nI_lit 0, nI_ltI (by omega) (by omega)] at c2
        exact c2
      rw [b2i_0] at c
      refine stay ?_
      rw [c]
      exact ctf_f c2
    · have c2 : q.1 = 0 := by
        rw [nI_lit 0, nI_ltI (by omega) (by omega)] at c2
        omega
      refine strip (body (Or.inr c2)) ?_
      rintro y ⟨fs, z1, z2⟩
      refine ⟨fs, z1, ?_⟩
      obtain ⟨d', mc, ms, w1, w2, w3, w4⟩ := z2
      refine ⟨d', mc, ms, w1, w2, w3, w4.mono ?_⟩
      rintro r h' ⟨x, e1, e2⟩
      refine ⟨x, e1, fun z => ?_, e2.2⟩
      obtain ⟨ci, k, fs, x, z1, z2, z3, z4⟩ := e2.1 z
      exact ⟨ci, k, fs, x, z1, z2, z3, fun y => (z4.1 y).elim, z4.2⟩
  | succ m ih =>
    intro ray set q h hm hs hst hq hqo hk ha hsq hf hci
    have hr : ray < B.2.2.1.length := by omega
    have hpm := Nat.two_pow_pos m
    have hp2 : 2 ^ (m + 1) = 2 ^ m + 2 ^ m := by rw [Nat.pow_succ]; omega
    have good := c_isGood (l := l) (set := set) (ray := ray) hB ha hci (by omega) (by omega) (by omega)
    have stay : ∀ {l1 : List Nat}, ctf al l1 q = q → h = wq_set h a (.inr (13, co_l B.2.2.1.length t sq li (nI (ctf al l1 q).1) (on1 (ctf al l1 q).2))) := fun z => by rw [z, wq_set_self ha]
    have c1 := ih (ray + 1) set q h (by omega) hs hst (by omega) hqo hk ha hsq hf hci
    generalize hq1 : ctf al (lv B t m (ray + 1) set) q = q1 at c1
    have ll := lv_len B t m (ray + 1) set
    have le1 := ctf_le al (lv B t m (ray + 1) set) q
    rw [hq1] at le1
    have ob1 := ctf_ob al (lv B t m (ray + 1) set) q hqo
    rw [hq1] at ob1
    generalize hh1 : wq_set h a (.inr (13, co_l B.2.2.1.length t sq li (nI q1.1) (on1 q1.2))) = h1 at c1
    have ha1 : h1 a = some (.inr (13, co_l B.2.2.1.length t sq li (nI q1.1) (on1 q1.2))) := by rw [← hh1]; exact wq_set_eq
    have nsq : sq ≠ a := by rintro rfl; rw [ha] at hsq; cases hsq
    have hsq1 : h1 sq = some (.inl (G.2.2.1 0, 18, .inl f)) := by rw [← hh1, wq_set_ne nsq]; exact hsq
    have hk1 : kon G h1 := by rw [← hh1]; exact hk.hx (hx.set (P := fun b => b = a) (Or.inl rfl)) fun b hb => by rw [hb]; exact hz
    have hci1 : ci_at G h1 P li (cor2 B t) := by rw [← hh1]; exact hci.set13 hk hz ha
    have set1 : ∀ e, wq_set h1 a e = wq_set h a e := fun e => by rw [← hh1, wq_set_set]
    -- what comes behind the first half
    have rest : gd B t set ray = true → ∀ C S : Nat, wq_gI h1 a [(13, 1)] (fun y14 => wq_ci G l (m + 1 + 4) C S mX1_has [.int y14, .int (nI ray)] h1 (fun y18 h15 C16 S17 => (y18 = 0 → h15 = wq_set h a (.inr (13, co_l B.2.2.1.length t sq li (nI (ctf al (lv B t (m + 1) ray set) q).1) (on1 (ctf al (lv B t (m + 1) ray set) q).2)))) ∧ (¬ y18 = 0 → wq_gR h15 a [(13, 2)] (fun a19 => wq_ai G h15 a19 (nI ray) (fun y20 => (¬ (y20 &&& nI set) = 0 → h15 = wq_set h a (.inr (13, co_l B.2.2.1.length t sq li (nI (ctf al (lv B t (m + 1) ray set) q).1) (on1 (ctf al (lv B t (m + 1) ray set) q).2)))) ∧ ((y20 &&& nI set) = 0 → ∃ fs24 : List Value, h15 a = some (.inr (13, fs24)) ∧ (wq_cw G l (m + 1 + 4) C16 S17 mX15_counts [.ref a, .int (nI ray + 1), .int (nI set ||| (1 <<< (nI ray &&& 31))), .int (b2i al)] h15 (fun h21 C22 S23 => h21 = wq_set h a (.inr (13, co_l B.2.2.1.length t sq li (nI (ctf al (lv B t (m + 1) ray set) q).1) (on1 (ctf al (lv B t (m + 1) ray set) q).2))))))))))) := by
      intro hg C S
      have e0 : lv B t (m + 1) ray set = lv B t m (ray + 1) set ++ (if (t.testBit ray && decide (sm B ray &&& set = 0)) = true then lv B t m (ray + 1) (set ||| 2 ^ ray) else []) := by rw [lv, if_pos hg]
      rw [e0, ctf_app, hq1]
      refine gI1 ha1 rfl (wq_ci.eq (by omega) (c_has (by omega) (by omega)) ⟨fun c => ?_, fun c => gR1 ha1 rfl (ai_n hsq1 ray rfl (by omega) (by omega) ?_)⟩)
      · rw [b2i_0] at c
        rw [c, Bool.false_and, if_neg (by decide)]
        exact hh1.symm
      · rw [b2i_0, Bool.not_eq_false] at c
        have bl : sm2 B t ray < 2 ^ 18 := Nat.lt_of_lt_of_le (bs_lt _ _) p18
        rw [hf ray hr, nI_and, nI_lit 0, nI_eq (Nat.lt_of_le_of_lt Nat.and_le_right (by omega)) (by omega), sm2_and hs hst c, c, Bool.true_and]
        refine ⟨fun c2 => ?_, fun c2 => ⟨_, ha1, ?_⟩⟩
        · rw [if_neg (by simpa using c2)]
          exact hh1.symm
        · rw [if_pos (by simpa using c2), nI_1, nI_shl (by omega), nI_or]
          have c3 := ih (ray + 1) (set ||| 2 ^ ray) q1 h1 (by omega) (Nat.or_lt_two_pow hs (Nat.pow_lt_pow_right (by omega) hr)) (sub_or hst c) (by omega) ob1 hk1 ha1 hsq1 hf hci1
          rw [set1] at c3
          exact wq_cw.use (by omega) (Nat.zero_le _) (Nat.zero_le _) c3 fun h' z => z
    have pre : gd B t set ray = false → ctf al (lv B t (m + 1) ray set) q = q := fun c => by
      rw [lv, if_neg (by rw [c]; decide)]
      rfl
    refine wq_C.of pn_X15 (Nat.le_of_ble_eq_true rfl) rfl (vX15_counts_0 ⟨fun c => gI1 ha rfl ⟨_, ha, ?_⟩, fun c => gI1 ha rfl ⟨fun c2 => ?_, fun c2 => gI1 ha rfl ⟨_, ha, ?_⟩⟩⟩)
    · rw [nI_shl (by omega)]
      refine wq_ci.eq (by omega) good ⟨fun c => ?_, fun c => ?_⟩
      · rw [b2i_0, Bool.not_eq_false] at c
        refine gI1 ha rfl ⟨fun _ => ⟨_, ha, ?_⟩, fun z => ?_⟩
        · rw [nI_1]
          refine wq_cw.use (by omega) (Nat.zero_le _) (Nat.zero_le _) c1 ?_
          rintro h' rfl
          have := rest c 0 0
          rw [nI_1, nI_shl (by omega)] at this
          exact this
        · rw [nI_eq (by omega) (by omega)] at z
          omega
      · rw [b2i_0] at c
        exact stay (pre c)
    · have c2 : 0 < q.1 := by
        rw [nI_lit 0, nI_ltI (by omega) (by omega)] at c2
        exact c2
      rw [b2i_0] at c
      refine stay ?_
      rw [c]
      exact ctf_f c2
    · rw [nI_shl (by omega)]
      refine wq_ci.eq (by omega) good ⟨fun c => ?_, fun c => ?_⟩
      · rw [b2i_0, Bool.not_eq_false] at c
        refine gI1 ha rfl ⟨fun _ => ⟨_, ha, ?_⟩, fun z => ?_⟩
        · rw [nI_1]
          refine wq_cw.use (by omega) (Nat.zero_le _) (Nat.zero_le _) c1 ?_
          rintro h' rfl
          have := rest c 0 0
          rw [nI_1, nI_shl (by omega)] at this
          exact this
        · rw [nI_eq (by omega) (by omega)] at z
          omega
      · rw [b2i_0] at c
        exact stay (pre c)
end CP15
