/-! CONTRACTS of the component: numbers; sets of looks and tables that are read -/
set_option maxRecDepth 100000
theorem pn_X1 : plainName RX1 = true := by decide +kernel
theorem bc_low (a : Nat) : ∀ n, bc a (n + 1) = a % 2 + bc (a / 2) n := by
  intro n
  induction n with
  | zero => simp [bc]
  | succ n ih =>
    show bc a (n + 1) + a / 2 ^ (n + 1) % 2 = a % 2 + (bc (a / 2) n + a / 2 / 2 ^ n % 2)
    rw [ih, Nat.div_div_eq_div_mul, Nat.pow_succ', Nat.add_assoc]
theorem and_m2 (a b : Nat) : (a &&& b) % 2 = (a % 2) &&& (b % 2) := Nat.and_mod_two_pow (n := 1)
/-- the lowest bit goes -/
theorem kern : ∀ n a, 0 < a → a < 2 ^ n → bc (a &&& (a - 1)) n + 1 = bc a n := by
  intro n
  induction n with
  | zero => intro a h1 h2; rw [Nat.pow_zero] at h2; omega
  | succ n ih =>
    intro a h1 h2
    rw [Nat.pow_succ] at h2
    rw [bc_low, bc_low, and_m2, Nat.and_div_two]
    rcases Nat.mod_two_eq_zero_or_one a with e | e
    · have e2 : (a - 1) / 2 = a / 2 - 1 := by omega
      rw [e, Nat.zero_and, e2, Nat.zero_add, Nat.zero_add]
      exact ih (a / 2) (by omega) (by omega)
    · have e1 : (a - 1) % 2 = 0 := by omega
      have e2 : (a - 1) / 2 = a / 2 := by omega
      rw [e, e1, e2, Nat.and_self, Nat.and_zero]
      omega
section CP2
variable {G : wq_G} {l : Launch} {d C S : Nat} {M : wq_M} {h : wq_H} {args : List Value}
theorem wq_cj.eq {d' : Nat} {v : Int64} {F : Int64 → wq_H → Nat → Nat → Prop} (hd : d' < d) (c : wq_C G l d' 0 0 M args h (wq_qj fun x h' => x = v ∧ h' = h)) (k : F v h C S) : wq_cj G l d C S M args h F :=
  wq_cj.use hd (Nat.zero_le _) (Nat.zero_le _) c (fun x h' q => by rw [q.1, q.2]; exact k)
theorem c_bits {a : Nat} (ha : a < 2 ^ 31) : wq_C G l 0 0 0 mX1_bits [.int (nI a)] h (wq_qi fun x h' => x = nI (bc a 31) ∧ h' = h) := by
  refine wq_C.of pn_X1 (Nat.le_of_ble_eq_true rfl) rfl (vX1_bits_0 ?_)
  have key : ∀ n c b, bc b 31 = n → b < 2 ^ 31 → c + n = bc a 31 → wq_T G l 0 mX1_bits (wq_qi fun x h' => x = nI (bc a 31) ∧ h' = h) 4 [none, some (.int (nI c)), some (.int (nI b))] [] h 0 0 := by
    intro n
    induction n with
    | zero =>
      intro c b hb hb2 hc
      have hb0 : b = 0 := by
        rcases Nat.eq_zero_or_pos b with q | q
        · exact q
        · have := kern 31 b q hb2; omega
      subst hb0
      exact vX1_bits_4 ⟨fun _ => ⟨by rw [← hc]; rfl, rfl⟩, fun e => absurd rfl e⟩
    | succ n ih =>
      intro c b hb hb2 hc
      have hb0 : 0 < b := by
        rcases Nat.eq_zero_or_pos b with q | q
        · rw [q, show bc 0 31 = 0 from rfl] at hb; omega
        · exact q
      refine vX1_bits_4 ⟨fun e => absurd e (nI_ne0 hb0 hb2), fun _ => ?_⟩
      rw [nI_1, nI_sub1 hb0, nI_and]
      have := kern 31 b hb0 hb2
      exact ih (c + 1) _ (by omega) (Nat.lt_of_le_of_lt Nat.and_le_left hb2) (by omega)
  exact key _ 0 a rfl ha (by omega)
theorem c_has {a k : Nat} (ha : a < 2 ^ 31) (hk : k < 32) : wq_C G l 0 0 0 mX1_has [.int (nI a), .int (nI k)] h (wq_qi fun x h' => x = b2i (a.testBit k) ∧ h' = h) := by
  refine wq_C.of pn_X1 (Nat.le_of_ble_eq_true rfl) rfl (vX1_has_0 ?_)
  rw [nI_bit ha hk, bit_div]
  cases q : a.testBit k
  · exact ⟨fun _ => ⟨rfl, rfl⟩, fun c => absurd c (by decide)⟩
  · exact ⟨fun c => absurd rfl c, fun _ => ⟨rfl, rfl⟩⟩
theorem c_in (v lo hi : Int32) : wq_C G l 0 0 0 mX1_in [.int v, .int lo, .int hi] h (wq_qi fun x h' => x = b2i (decide (lo ≤ v ∧ v ≤ hi)) ∧ h' = h) := by
  refine wq_C.of pn_X1 (Nat.le_of_ble_eq_true rfl) rfl (vX1_in_0 ⟨fun c => ⟨b2i_not fun q => ?_, rfl⟩, fun c => ⟨fun c2 => ⟨b2i_not fun q => ?_, rfl⟩, fun c2 => ⟨b2i_of ⟨?_, ?_⟩, rfl⟩⟩⟩)
  · exact absurd c (Int32.not_lt.mpr q.1)
  · exact absurd c2 (Int32.not_lt.mpr q.2)
  · exact Int32.not_lt.mp c
  · exact Int32.not_lt.mp c2
theorem c_inB (v : Int32) {n : Nat} (hn : n < 2 ^ 30) : wq_C G l 0 0 0 mX1_in [.int v, .int 0, .int (nI n - 1)] h (wq_qi fun x h' => x = b2i (inB v n) ∧ h' = h) := by
  have := c_in (G := G) (l := l) (h := h) v 0 (nI n - 1)
  rwa [in_range hn] at this
theorem c_divisor {a b : Nat} (ha : a < 2 ^ 62) (hb : b < 2 ^ 62) : wq_C G l 0 0 0 mX1_divisor [.long (jJ a), .long (jJ b)] h (wq_qj fun r h' => r = jJ (Nat.gcd a b) ∧ h' = h) := by
  refine wq_C.of pn_X1 (Nat.le_of_ble_eq_true rfl) rfl (vX1_divisor_0 ?_)
  have key : ∀ n a b : Nat, b < n → a < 2 ^ 62 → b < 2 ^ 62 → ∀ K : Int64 → wq_H → Prop, K (jJ (Nat.gcd a b)) h → wq_T G l 0 mX1_divisor (wq_qj K) 6 [none, none, none, none, some (.long (jJ a)), none, some (.long (jJ b)), none, none, none] [] h 0 0 := by
    intro n
    induction n with
    | zero => intro a b hb; omega
    | succ n ih =>
      intro a b hb ha hb2 K hK
      refine vX1_divisor_6 ⟨fun c => ?_, fun c => ?_⟩
      · rw [lg_cmp_eq, jJ_lit 0, jJ_inj (by omega) (by omega) (by omega) (by omega)] at c
        obtain rfl : b = 0 := by omega
        simpa using hK
      · rw [lg_cmp_eq] at c
        refine ⟨c, ?_⟩
        rw [jJ_lit 0, jJ_inj (by omega) (by omega) (by omega) (by omega)] at c
        have hb0 : 0 < b := by omega
        rw [jJ_rem (by omega) (by omega) (by omega) (by omega)]
        have e : (a : Int).tmod (b : Int) = ((a % b : Nat) : Int) := rfl
        have hm := Nat.mod_lt a hb0
        rw [e]
        refine ih b (a % b) (by omega) hb2 (by omega) K ?_
        rw [Nat.gcd_comm, Nat.gcd_rec] at hK
        rwa [← Nat.gcd_comm] at hK
  exact key (b + 1) a b (by omega) ha hb _ ⟨rfl, rfl⟩
theorem c_lowest {a b : Nat} (ha : a < 2 ^ 62) (hb : b < 2 ^ 62) (hb0 : 0 < b) (c : Int32) : wq_C G l 1 0 0 mX1_lowest [.long (jJ a), .long (jJ b), .int c] h (wq_qi fun r h' => r = (jJ (((if c = 0 then a else b) / Nat.gcd a b : Nat))).toInt32 ∧ h' = h) := by
  have hg : 0 < Nat.gcd a b := Nat.gcd_pos_of_pos_right a hb0
  have hg2 : Nat.gcd a b ≤ b := Nat.gcd_le_right a hb0
  have hne : ¬ jJ (Nat.gcd a b) = 0 := by
    rw [jJ_lit 0, jJ_inj (by omega) (by omega) (by omega) (by omega)]
    omega
  refine wq_C.of pn_X1 (Nat.le_of_ble_eq_true rfl) rfl (vX1_lowest_0 (wq_cj.eq (by decide) (c_divisor ha hb) ?_))
  refine ⟨fun c1 => ⟨hne, ?_, rfl⟩, fun c1 => ⟨hne, ?_, rfl⟩⟩
  · rw [jJ_div (by omega) (by omega) (by omega) (by omega), if_pos c1]
    rfl
  · rw [jJ_div (by omega) (by omega) (by omega) (by omega), if_neg c1]
    rfl
/-! sets of looks -/
theorem sec_eq {b : Option Nat} {x : Nat} (h2 : ∀ y, b = some y → y < 6) (hx : x < 6) : ta_sec b = nI x ↔ b = some x := by
  cases b with
  | none =>
    simp only [ta_sec, reduceCtorEq, iff_false]
    have : ∀ k, k < 6 → (-2 : Int32) ≠ nI k := by decide
    exact this x hx
  | some y =>
    have := h2 y rfl
    simp only [ta_sec, Option.some.injEq]
    rw [nI_eq (by omega) (by omega)]
theorem c_isOf {a ta ca : Nat} {e : zs_E} (ha : as_at G h a ta ca e) (h1 : e.1 < 6) (h2 : ∀ b, e.2.1 = some b → b < 6) {x : Nat} (hx : x < 6) : wq_C G l 1 0 0 mX9_isOf [.ref a, .int (nI x)] h (wq_qi fun r h' => r = b2i (zs_isof e x) ∧ h' = h) := by
  refine wq_C.of pn_X9 (Nat.le_of_ble_eq_true rfl) rfl (vX9_isOf_0 (v_first ha (by decide) ⟨fun c => ⟨?_, rfl⟩, fun c => v_second ha (by decide) ⟨fun c2 => ⟨?_, rfl⟩, fun c2 => ⟨?_, rfl⟩⟩⟩))
  · rw [nI_eq (by omega) (by omega)] at c
    simp [zs_isof, c, b2i]
  · rw [nI_eq (by omega) (by omega)] at c
    rw [sec_eq h2 hx] at c2
    simp [zs_isof, c, c2, b2i]
  · rw [sec_eq h2 hx] at c2
    simp [zs_isof, c2, b2i]
theorem v_isOf {a ta ca : Nat} {e : zs_E} (ha : as_at G h a ta ca e) (h1 : e.1 < 6) (h2 : ∀ b, e.2.1 = some b → b < 6) {x : Nat} (hx : x < 6) (hd : 1 < d) {F : Int32 → wq_H → Nat → Nat → Prop} (k : F (b2i (zs_isof e x)) h C S) : (∃ fs : List Value, h a = some (.inr (8, fs)) ∧ wq_ci G l d C S mX9_isOf [.ref a, .int (nI x)] h F) ∨ (∃ fs : List Value, h a = some (.inr (9, fs)) ∧ wq_ci G l d C S mX9_isOf [.ref a, .int (nI x)] h F) :=
  as_v ha (fun _ => wq_ci.eq hd (c_isOf ha h1 h2 hx) k) (fun _ _ => wq_ci.eq hd (c_isOf ha h1 h2 hx) k)
theorem as_t {a ta ca : Nat} {e : zs_E} (ha : as_at G h a ta ca e) : ∃ f : Nat → Int32, h ta = some (.inl (G.2.2.1 0, 4, .inl f)) ∧ ∀ o, o < zs_out e → f o = nI (e.2.2.1 o) := ha.2.1
theorem as_c {a ta ca : Nat} {e : zs_E} (ha : as_at G h a ta ca e) : ∃ f : Nat → Int32, h ca = some (.inl (G.2.2.1 0, 4, .inl f)) ∧ ∀ o, o < zs_out e → f o = nI (e.2.2.2 o) := ha.2.2
theorem out_1 {e : zs_E} (q : e.2.1 = none) : zs_out e = 2 := by rw [zs_out, q]
theorem out_2 {e : zs_E} {b : Nat} (q : e.2.1 = some b) : zs_out e = 4 := by rw [zs_out, q]
theorem v_ones {a ta ca : Nat} {e : zs_E} (ha : as_at G h a ta ca e) (h1 : e.1 < 6) {x n : Nat} (hx : x < 6) (hn : zs_ones e x = some n) (hd : 0 < d) {F : Int32 → wq_H → Nat → Nat → Prop} (k : F (nI n) h C S) : (∃ fs : List Value, h a = some (.inr (8, fs)) ∧ wq_ci G l d C S mX10_ones [.ref a, .int (nI x)] h F) ∨ (∃ fs : List Value, h a = some (.inr (9, fs)) ∧ wq_ci G l d C S mX11_ones [.ref a, .int (nI x)] h F) := by
  obtain ⟨f, g1, g2⟩ := as_t ha
  refine as_v ha (fun q => ?_) (fun b q => ?_)
  · rw [out_1 q] at g2
    refine wq_ci.eq hd (v := nI n) (wq_C.of pn_X10 (Nat.le_of_ble_eq_true rfl) rfl (vX10_ones_0 (gR1 (as_8 ha q) rfl (ai_n g1 1 rfl (by omega) (by omega) ⟨?_, rfl⟩)))) k
    rw [g2 1 (by omega)]
    simp only [zs_ones, q, reduceCtorEq, if_false] at hn
    split at hn
    · cases hn; rfl
    · cases hn
  · rw [out_2 q] at g2
    have q9 := as_9 ha q
    refine wq_ci.eq hd (v := nI n) (wq_C.of pn_X11 (Nat.le_of_ble_eq_true rfl) rfl (vX11_ones_0 (gR1 q9 rfl (ai_n g1 3 rfl (by omega) (by omega) (gI1 q9 rfl ⟨fun c => gR1 q9 rfl (ai_n g1 1 rfl (by omega) (by omega) ⟨?_, rfl⟩), fun c => gR1 q9 rfl (ai_n g1 2 rfl (by omega) (by omega) ⟨?_, rfl⟩)⟩))))) k
    · rw [nI_eq (by omega) (by omega)] at c
      rw [g2 3 (by omega), g2 1 (by omega), nI_add]
      simp only [zs_ones, q] at hn
      rw [if_neg (fun z => c z.symm)] at hn
      split at hn
      · cases hn; rw [Nat.add_comm]
      · cases hn
    · rw [nI_eq (by omega) (by omega)] at c
      rw [g2 3 (by omega), g2 2 (by omega), nI_add]
      simp only [zs_ones, q] at hn
      rw [if_pos c.symm] at hn
      cases hn
      rw [Nat.add_comm]
/-- its looks, as bits -/
def zs_lk (e : zs_E) : Nat := match e.2.1 with
  | none => 2 ^ e.1
  | some b => 2 ^ e.1 ||| 2 ^ b
theorem v_looks {a ta ca : Nat} {e : zs_E} (ha : as_at G h a ta ca e) (h1 : e.1 < 6) (h2 : ∀ b, e.2.1 = some b → b < 6) (hd : 1 < d) {F : Int32 → wq_H → Nat → Nat → Prop} (k : F (nI (zs_lk e)) h C S) : (∃ fs : List Value, h a = some (.inr (8, fs)) ∧ wq_ci G l d C S mX9_looks [.ref a] h F) ∨ (∃ fs : List Value, h a = some (.inr (9, fs)) ∧ wq_ci G l d C S mX11_looks [.ref a] h F) := by
  refine as_v ha (fun q => ?_) (fun b q => ?_)
  · refine wq_ci.eq hd (v := nI (zs_lk e)) (wq_C.of pn_X9 (Nat.le_of_ble_eq_true rfl) rfl (vX9_looks_0 (v_first (d := 1) ha (by decide) ⟨?_, rfl⟩))) k
    rw [nI_shl (by omega), zs_lk, q]
  · have := h2 b q
    refine wq_ci.eq (d' := 0) (by omega) (v := nI (zs_lk e)) (wq_C.of pn_X11 (Nat.le_of_ble_eq_true rfl) rfl (vX11_looks_0 (gI1 (as_9 ha q) rfl (gI1 (as_9 ha q) rfl ⟨?_, rfl⟩)))) k
    rw [nI_shl (by omega), nI_shl (by omega), nI_or, zs_lk, q]
/-- as the component says it: 0 of a set of one look -/
def zs_sam (e : zs_E) : Int := match e.2.1 with
  | none => 0
  | some _ => zs_same e
theorem v_same {a ta ca : Nat} {e : zs_E} (ha : as_at G h a ta ca e) (hd : 0 < d) {F : Int32 → wq_H → Nat → Nat → Prop} (k : F (iI (zs_sam e)) h C S) : (∃ fs : List Value, h a = some (.inr (8, fs)) ∧ wq_ci G l d C S mX9_same [.ref a] h F) ∨ (∃ fs : List Value, h a = some (.inr (9, fs)) ∧ wq_ci G l d C S mX11_same [.ref a] h F) := by
  obtain ⟨f, g1, g2⟩ := as_t ha
  refine as_v ha (fun q => ?_) (fun b q => ?_)
  · refine wq_ci.eq hd (v := iI (zs_sam e)) (wq_C.of pn_X9 (Nat.le_of_ble_eq_true rfl) rfl (vX9_same_0 ⟨?_, rfl⟩)) k
    rw [zs_sam, q]; rfl
  · rw [out_2 q] at g2
    have q9 := as_9 ha q
    refine wq_ci.eq hd (v := iI (zs_sam e)) (wq_C.of pn_X11 (Nat.le_of_ble_eq_true rfl) rfl (vX11_same_0 (gR1 q9 rfl (ai_n g1 0 rfl (by omega) (by omega) (gR1 q9 rfl (ai_n g1 3 rfl (by omega) (by omega) (gR1 q9 rfl (ai_n g1 1 rfl (by omega) (by omega) (gR1 q9 rfl (ai_n g1 2 rfl (by omega) (by omega) ⟨?_, rfl⟩)))))))))) k
    rw [g2 0 (by omega), g2 1 (by omega), g2 2 (by omega), g2 3 (by omega), nI_iI, nI_iI, nI_iI, nI_iI, iI_add, iI_sub, iI_sub, zs_sam, q]
    rfl
/-! tables -/
variable {t li ba : Nat} {sa ta ca : Nat → Nat} {T : zs_T} {L N : Nat}
theorem u_size (ht : tb_at G h t li ba sa ta ca T) (hd : 1 < d) {F : Int32 → wq_H → Nat → Nat → Prop} (k : F (nI T.length) h C S) : ∃ fs : List Value, h t = some (.inr (6, fs)) ∧ wq_ci G l d C S mX7_size [.ref t] h F := ⟨_, ht.1, wq_ci.eq hd (c_tsize ht) k⟩
theorem u_set (ht : tb_at G h t li ba sa ta ca T) {k : Nat} (hk : k < T.length) (hd : 3 < d) {F : Option Nat → wq_H → Nat → Nat → Prop} (q : F (some (sa k)) h C S) : ∃ fs : List Value, h t = some (.inr (6, fs)) ∧ wq_cq G l d C S mX7_set [.ref t, .int (nI k)] h F := ⟨_, ht.1, wq_cq.eq hd (c_tset ht hk) q⟩
theorem ok6 (hT : zs_ok L N T) (hL : L ≤ 6) {k : Nat} (hk : k < T.length) : (zs_at T k).1 < 6 ∧ ∀ b, (zs_at T k).2.1 = some b → b < 6 := by
  have h1 := ok_get hT hk
  exact ⟨by omega, fun b hb => by have := h1.2.1 b hb; omega⟩
theorem c_fits (ht : tb_at G h t li ba sa ta ca T) (hT : zs_ok L N T) (hL : L ≤ 6) (hN : N ≤ 60) {hh : Nat} (hh1 : hh < 2 ^ 31) {b : Option Nat} (hb : ∀ x, b = some x → x < 100) : wq_C G l 4 0 0 mX7_fits [.ref t, .int (nI hh), .int (bu b)] h (wq_qi fun x h' => x = b2i (zs_fits T hh b) ∧ h' = h) := by
  have h8 := hT.1
  refine wq_C.of pn_X7 (Nat.le_of_ble_eq_true rfl) rfl (vX7_fits_0 ?_)
  refine down (P := fun k => allB (fun k => decide (b = some k) || decide (0 < (zs_at T k).2.2.1 (zs_fit (zs_at T k) hh))) k = true → wq_T G l 4 mX7_fits (wq_qi fun x h' => x = b2i (zs_fits T hh b) ∧ h' = h) 2 [some (.ref t), some (.int (nI hh)), some (.int (bu b)), some (.int (nI k))] [] h 0 0) (n := T.length) ?_ ?_ rfl
  · intro hp
    refine vX7_fits_2 (u_size ht (by decide) ⟨fun _ => ⟨?_, rfl⟩, fun c => absurd (Int32.le_refl _) c⟩)
    rw [zs_fits, hp]; rfl
  · intro k hk ih hp
    have o6 := ok6 hT hL hk
    have hf := zs_fit_lt (zs_at T k) hh
    have htm := ok_tm hT hk hf
    refine vX7_fits_2 (u_size ht (by decide) ⟨fun c => ?_, fun _ => ⟨fun c => ?_, fun c => u_set ht hk (by decide) (u_set ht hk (by decide) ⟨_, rfl, v_outcome (ht.2.2 k hk) o6.1 o6.2 hh1 (by decide) ⟨_, rfl, v_isPossible (ht.2.2 k hk) hf (by omega) (by decide) ⟨fun c2 => ?_, fun c2 => ⟨?_, rfl⟩⟩⟩⟩)⟩⟩)
    · rw [nI_leI (by omega) (by omega)] at c
      omega
    · rw [nI_1]
      refine ih ?_
      rw [allB, hp, (bu_eq (by omega) hb).mp c]
      simp
    · rw [b2i_0] at c2
      rw [nI_1]
      refine ih ?_
      simp only [decide_eq_false_iff_not, Decidable.not_not] at c2
      rw [allB, hp]
      simp [c2]
    · rw [b2i_0] at c2
      have c3 : ¬ b = some k := fun q => c ((bu_eq (by omega) hb).mpr q)
      have : zs_fits T hh b = false := by
        cases q : zs_fits T hh b with
        | false => rfl
        | true =>
          rw [zs_fits, allB_iff] at q
          have := q k hk
          simp [c3, c2] at this
      rw [this]; rfl
theorem c_extend (ht : tb_at G h t li ba sa ta ca T) (hT : zs_ok L N T) (hL : L ≤ 6) (hN : N ≤ 60) {k oo : Nat} (hk : k < T.length) (ho : oo < 4) : wq_C G l 5 0 0 mX7_extend [.ref t, .int (nI k), .int (nI oo), .int (nI (2 ^ L))] h (wq_qi fun x h' => x = b2i (zs_ext L T k oo) ∧ h' = h) := by
  have h8 := hT.1
  have hp := pow_64 hL
  have o6 := ok6 hT hL hk
  refine wq_C.of pn_X7 (Nat.le_of_ble_eq_true rfl) rfl (vX7_extend_0 ?_)
  refine down (P := fun j => anyB (fun hh => decide (zs_fit (zs_at T k) hh = oo) && zs_fits T hh (some k)) j = false → wq_T G l 5 mX7_extend (wq_qi fun x h' => x = b2i (zs_ext L T k oo) ∧ h' = h) 3 [some (.ref t), some (.int (nI k)), some (.int (nI oo)), some (.int (nI (2 ^ L))), some (.int (nI j))] [] h 0 0) (n := 2 ^ L) ?_ ?_ rfl
  · intro hp
    refine vX7_extend_3 ⟨fun _ => ⟨?_, rfl⟩, fun c => absurd (Int32.le_refl _) c⟩
    rw [zs_ext, hp]; rfl
  · intro j hj ih hq
    have hf := zs_fit_lt (zs_at T k) j
    have hf2 := zs_out_le (zs_at T k)
    refine vX7_extend_3 ⟨fun c => ?_, fun _ => u_set ht hk (by decide) ⟨_, rfl, v_outcome (ht.2.2 k hk) o6.1 o6.2 (by omega) (by decide) ⟨fun c => ?_, fun c => ⟨_, ht.1, wq_ci.eq (by decide) (c_fits ht hT hL hN (hh := j) (b := some k) (by omega) (by rintro x ⟨⟩; omega)) ⟨fun c2 => ?_, fun c2 => ⟨?_, rfl⟩⟩⟩⟩⟩⟩
    · rw [nI_leI (by omega) (by omega)] at c
      omega
    · rw [nI_eq (by omega) (by omega)] at c
      rw [nI_1]
      refine ih ?_
      simp [anyB, hq, c]
    · rw [b2i_0] at c2
      rw [nI_1]
      refine ih ?_
      simp [anyB, hq, c2]
    · rw [b2i_0, Bool.not_eq_false] at c2
      rw [nI_eq (by omega) (by omega)] at c
      have : zs_ext L T k oo = true := by
        rw [zs_ext, anyB_iff]
        exact ⟨j, hj, by simp [c, c2]⟩
      rw [this]; rfl
theorem c_isOutcome (ht : tb_at G h t li ba sa ta ca T) (h8 : T.length ≤ 8) (x y : Int32) : wq_C G l 4 0 0 mX7_isOutcome [.ref t, .int x, .int y] h (wq_qi fun r h' => r = b2i (zs_isO T x y) ∧ h' = h) := by
  refine wq_C.of pn_X7 (Nat.le_of_ble_eq_true rfl) rfl (vX7_isOutcome_0 (u_size ht (by decide) (wq_ci.eq (by decide) (c_inB x (by omega)) ⟨fun c => ⟨?_, rfl⟩, fun c => ?_⟩)))
  · rw [b2i_0] at c
    simp [zs_isO, c, b2i]
  · rw [b2i_0, Bool.not_eq_false] at c
    obtain ⟨k, hk, rfl⟩ := inB_of c
    have hf2 := zs_out_le (zs_at T k)
    refine u_set ht hk (by decide) ⟨_, rfl, v_outcomes (ht.2.2 k hk) (by decide) (wq_ci.eq (by decide) (c_inB y (by omega)) ⟨fun c2 => ⟨?_, rfl⟩, fun c2 => ⟨?_, rfl⟩⟩)⟩
    · rw [b2i_0] at c2
      rw [zs_isO, nI_clamp (by omega), c2, Bool.and_false]; rfl
    · rw [b2i_0, Bool.not_eq_false] at c2
      rw [zs_isO, nI_clamp (by omega), c2, c]; rfl
theorem c_tisOf (ht : tb_at G h t li ba sa ta ca T) (hT : zs_ok L N T) (hL : L ≤ 6) {x : Nat} (hx : x < 6) : wq_C G l 4 0 0 mX7_isOf [.ref t, .int (nI x)] h (wq_qi fun r h' => r = b2i (T.any (fun e => zs_isof e x)) ∧ h' = h) := by
  have h8 := hT.1
  refine wq_C.of pn_X7 (Nat.le_of_ble_eq_true rfl) rfl (vX7_isOf_0 ?_)
  refine down (P := fun k => (∀ j, j < k → zs_isof (zs_at T j) x = false) → wq_T G l 4 mX7_isOf (wq_qi fun r h' => r = b2i (T.any (fun e => zs_isof e x)) ∧ h' = h) 2 [some (.ref t), some (.int (nI x)), some (.int (nI k))] [] h 0 0) (n := T.length) ?_ ?_ (fun j hj => by omega)
  · intro hp
    refine vX7_isOf_2 (u_size ht (by decide) ⟨fun _ => ⟨?_, rfl⟩, fun c => absurd (Int32.le_refl _) c⟩)
    have : T.any (fun e => zs_isof e x) = false := by
      rw [List.any_eq_false]
      intro e he
      obtain ⟨i, hi⟩ := List.getElem?_of_mem he
      have := hp i (List.getElem?_eq_some_iff.mp hi).1
      rw [zs_at_eq hi] at this
      simp [this]
    rw [this]; rfl
  · intro k hk ih hp
    have o6 := ok6 hT hL hk
    refine vX7_isOf_2 (u_size ht (by decide) ⟨fun c => ?_, fun _ => u_set ht hk (by decide) ⟨_, rfl, v_isOf (ht.2.2 k hk) o6.1 o6.2 hx (by decide) ⟨fun c => ?_, fun c => ⟨?_, rfl⟩⟩⟩⟩)
    · rw [nI_leI (by omega) (by omega)] at c
      omega
    · rw [b2i_0] at c
      rw [nI_1]
      refine ih fun j hj => ?_
      by_cases e : j = k
      · rw [e]; exact c
      · exact hp j (by omega)
    · rw [b2i_0, Bool.not_eq_false] at c
      have : T.any (fun e => zs_isof e x) = true := List.any_eq_true.mpr ⟨_, List.mem_of_getElem? (zs_get hk), c⟩
      rw [this]; rfl
end CP2
