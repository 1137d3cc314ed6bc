/-! NUMBERS, second: Int64 out of Int; common divisors -/
def jJ (z : Int) : Int64 := Int64.ofInt z
theorem jJ_add (a b : Int) : jJ a + jJ b = jJ (a + b) := (Int64.ofInt_add a b).symm
theorem jJ_sub (a b : Int) : jJ a - jJ b = jJ (a - b) := (Int64.ofInt_sub a b).symm
theorem jJ_mul (a b : Int) : jJ a * jJ b = jJ (a * b) := (Int64.ofInt_mul a b).symm
theorem jJ_neg (a : Int) : -jJ a = jJ (-a) := (Int64.ofInt_neg a).symm
theorem jJ_lit (n : Nat) : (OfNat.ofNat n : Int64) = jJ n := by
  show Int64.ofNat n = Int64.ofInt n
  rw [Int64.ofInt_eq_ofNat]
theorem jJ_toInt {z : Int} (h1 : -9223372036854775808 ≤ z) (h2 : z < 9223372036854775808) : (jJ z).toInt = z := Int64.toInt_ofInt_of_le h1 h2
theorem jJ_self (x : Int64) : jJ x.toInt = x := Int64.ofInt_toInt x
theorem jJ_le {a b : Int} (h1 : -9223372036854775808 ≤ a) (h2 : a < 9223372036854775808) (h3 : -9223372036854775808 ≤ b) (h4 : b < 9223372036854775808) : jJ a ≤ jJ b ↔ a ≤ b := by
  rw [Int64.le_iff_toInt_le, jJ_toInt h1 h2, jJ_toInt h3 h4]
theorem jJ_lt {a b : Int} (h1 : -9223372036854775808 ≤ a) (h2 : a < 9223372036854775808) (h3 : -9223372036854775808 ≤ b) (h4 : b < 9223372036854775808) : jJ a < jJ b ↔ a < b := by
  rw [Int64.lt_iff_toInt_lt, jJ_toInt h1 h2, jJ_toInt h3 h4]
theorem jJ_inj {a b : Int} (h1 : -9223372036854775808 ≤ a) (h2 : a < 9223372036854775808) (h3 : -9223372036854775808 ≤ b) (h4 : b < 9223372036854775808) : jJ a = jJ b ↔ a = b := by
  constructor
  · intro h
    have := congrArg Int64.toInt h
    rwa [jJ_toInt h1 h2, jJ_toInt h3 h4] at this
  · intro h
    rw [h]
theorem jJ_div {a b : Int} (h1 : -9223372036854775808 < a) (h2 : a < 9223372036854775808) (h3 : -9223372036854775808 ≤ b) (h4 : b < 9223372036854775808) : jJ a / jJ b = jJ (a.tdiv b) := by
  apply Int64.toInt_inj.mp
  have hb : (a.tdiv b).natAbs ≤ a.natAbs := Int.natAbs_tdiv_le_natAbs a b
  rw [Int64.toInt_div, jJ_toInt (by omega) h2, jJ_toInt h3 h4, jJ_toInt (by omega) (by omega)]
  rw [Int.bmod_eq_of_le (by omega) (by omega)]
theorem jJ_i {z : Int} (h1 : -2147483648 ≤ z) (h2 : z < 2147483648) : (iI z).toInt64 = jJ z := by
  apply Int64.toInt_inj.mp
  rw [Int32.toInt_toInt64, iI_toInt h1 h2, jJ_toInt (by omega) (by omega)]
theorem jJ_rem {a b : Int} (h1 : -9223372036854775808 < a) (h2 : a < 9223372036854775808) (h3 : -9223372036854775808 ≤ b) (h4 : b < 9223372036854775808) : jJ a - jJ a / jJ b * jJ b = jJ (a.tmod b) := by
  rw [jJ_div h1 h2 h3 h4, jJ_mul, jJ_sub]
  congr 1
  have := Int.tdiv_mul_add_tmod a b
  omega
section NUM2
variable {G : wq_G} {l : Launch} {o : Nat} {ad : Nat → Nat} {h : wq_H} {s : tw_S}
theorem t_common (ok : tw_ok G o ad) {a b : Nat} (ha : a < 2 ^ 62) (hb : b < 2 ^ 62) : wq_C G l 0 0 0 mX3_common [.long (jJ a), .long (jJ b)] (tw_h G o ad s h) (tw_ql G o ad h fun r s' => r = jJ (Nat.gcd a b) ∧ s' = s) := by
  refine wq_C.of pn_X3 (Nat.le_of_ble_eq_true rfl) rfl (vX3_common_0 ok ?_)
  have key : ∀ n a b : Nat, b < n → a < 2 ^ 62 → b < 2 ^ 62 → ∀ K : Int64 → tw_S → Prop, K (jJ (Nat.gcd a b)) s → tw_T G l o ad h 0 mX3_common (tw_ql G o ad h K) 6 [none, none, none, none, some (.long (jJ a)), none, some (.long (jJ b)), none, none, none] [] s := by
    intro n
    induction n with
    | zero => intro a b hb; omega
    | succ n ih =>
      intro a b hb ha hb2 K hK
      refine vX3_common_6 ok ⟨fun c => ?_, fun c => ?_⟩
      · rw [lg_cmp_eq, jJ_lit 0, jJ_inj (by omega) (by omega) (by omega) (by omega)] at c
        obtain rfl : b = 0 := by omega
        simpa using hK
      · rw [lg_cmp_eq] at c
        refine ⟨c, ?_⟩
        rw [jJ_lit 0, jJ_inj (by omega) (by omega) (by omega) (by omega)] at c
        have hb0 : 0 < b := by omega
        rw [jJ_rem (by omega) (by omega) (by omega) (by omega)]
        have e : (a : Int).tmod (b : Int) = ((a % b : Nat) : Int) := rfl
        have hm := Nat.mod_lt a hb0
        rw [e]
        refine ih b (a % b) (by omega) hb2 (by omega) K ?_
        rw [Nat.gcd_comm, Nat.gcd_rec] at hK
        rwa [← Nat.gcd_comm] at hK
  exact key (b + 1) a b (by omega) ha hb _ ⟨rfl, rfl⟩
theorem t_lowest (ok : tw_ok G o ad) {a b : Nat} (ha : a < 2 ^ 62) (hb : b < 2 ^ 62) (hb0 : 0 < b) (c : Int32) : wq_C G l 1 0 0 mX3_lowest [.long (jJ a), .long (jJ b), .int c] (tw_h G o ad s h) (tw_qi G o ad h fun r s' => r = (jJ (((if c = 0 then a else b) / Nat.gcd a b : Nat))).toInt32 ∧ s' = s) := by
  have hg : 0 < Nat.gcd a b := Nat.gcd_pos_of_pos_right a hb0
  have hg2 : Nat.gcd a b ≤ b := Nat.gcd_le_right a hb0
  have hne : ¬ jJ (Nat.gcd a b) = 0 := by
    rw [jJ_lit 0, jJ_inj (by omega) (by omega) (by omega) (by omega)]
    omega
  refine wq_C.of pn_X3 (Nat.le_of_ble_eq_true rfl) rfl (vX3_lowest_0 ok (tw_cl.use (by decide) (t_common ok ha hb) ?_))
  rintro x s' ⟨rfl, rfl⟩
  refine ⟨fun c1 => ⟨hne, ?_, rfl⟩, fun c1 => ⟨hne, ?_, rfl⟩⟩
  · rw [jJ_div (by omega) (by omega) (by omega) (by omega), if_pos c1]
    rfl
  · rw [jJ_div (by omega) (by omega) (by omega) (by omega), if_neg c1]
    rfl
end NUM2
