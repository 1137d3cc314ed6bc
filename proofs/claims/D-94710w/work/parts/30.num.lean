/-! NUMBERS: Int32 out of Int and Nat -/
def iI (z : Int) : Int32 := Int32.ofInt z
theorem iI_add (a b : Int) : iI a + iI b = iI (a + b) := (Int32.ofInt_add a b).symm
theorem iI_sub (a b : Int) : iI a - iI b = iI (a - b) := (Int32.ofInt_sub a b).symm
theorem iI_mul (a b : Int) : iI a * iI b = iI (a * b) := (Int32.ofInt_mul a b).symm
theorem iI_neg (a : Int) : -iI a = iI (-a) := (Int32.ofInt_neg a).symm
theorem iI_lit (n : Nat) : (OfNat.ofNat n : Int32) = iI n := by
  show Int32.ofNat n = Int32.ofInt n
  rw [Int32.ofInt_eq_ofNat]
theorem nI_iI (n : Nat) : nI n = iI n := by
  show Int32.ofNat n = Int32.ofInt n
  rw [Int32.ofInt_eq_ofNat]
theorem iI_toInt {z : Int} (h1 : -2147483648 ≤ z) (h2 : z < 2147483648) : (iI z).toInt = z := Int32.toInt_ofInt_of_le h1 h2
theorem iI_self (x : Int32) : iI x.toInt = x := Int32.ofInt_toInt x
theorem iI_le {a b : Int} (h1 : -2147483648 ≤ a) (h2 : a < 2147483648) (h3 : -2147483648 ≤ b) (h4 : b < 2147483648) : iI a ≤ iI b ↔ a ≤ b := by
  rw [Int32.le_iff_toInt_le, iI_toInt h1 h2, iI_toInt h3 h4]
theorem iI_lt {a b : Int} (h1 : -2147483648 ≤ a) (h2 : a < 2147483648) (h3 : -2147483648 ≤ b) (h4 : b < 2147483648) : iI a < iI b ↔ a < b := by
  rw [Int32.lt_iff_toInt_lt, iI_toInt h1 h2, iI_toInt h3 h4]
theorem iI_inj {a b : Int} (h1 : -2147483648 ≤ a) (h2 : a < 2147483648) (h3 : -2147483648 ≤ b) (h4 : b < 2147483648) : iI a = iI b ↔ a = b := by
  constructor
  · intro h
    have := congrArg Int32.toInt h
    rwa [iI_toInt h1 h2, iI_toInt h3 h4] at this
  · intro h
    rw [h]
theorem i32_lo (x : Int32) : -2147483648 ≤ x.toInt := Int32.le_toInt x
theorem i32_hi (x : Int32) : x.toInt < 2147483648 := Int32.toInt_lt x
theorem nI_mul (a b : Nat) : nI a * nI b = nI (a * b) := by
  rw [nI_iI, nI_iI, nI_iI, iI_mul]
  congr 1
theorem nI_lit (n : Nat) : (OfNat.ofNat n : Int32) = nI n := rfl
/-- truth as an int -/
def b2i (b : Bool) : Int32 := if b then 1 else 0
theorem b2i_z (b : Bool) : b2i b = 0 ∨ b2i b = 1 := by cases b <;> simp [b2i]
theorem b2i_0 {b : Bool} : b2i b = 0 ↔ b = false := by cases b <;> decide
theorem b2i_1 {b : Bool} : b2i b = 1 ↔ b = true := by cases b <;> decide
theorem b2i_t : b2i true = 1 := rfl
theorem b2i_f : b2i false = 0 := rfl
/-- bits of small numbers -/
theorem nI_bv (n : Nat) : (nI n).toBitVec = BitVec.ofNat 32 n := rfl
theorem nI_and (a b : Nat) : nI a &&& nI b = nI (a &&& b) := nx_and a b
theorem nI_or (a b : Nat) : nI a ||| nI b = nI (a ||| b) := by
  apply Int32.toBitVec_inj.mp
  rw [Int32.toBitVec_or, nI_bv, nI_bv, nI_bv]
  apply BitVec.eq_of_toNat_eq
  simp [Nat.or_mod_two_pow]
theorem nI_xor (a b : Nat) : nI a ^^^ nI b = nI (a ^^^ b) := nx_xor a b
theorem nI_shl {k : Nat} (hk : k < 32) : (1 : Int32) <<< (nI k &&& 31) = nI (2 ^ k) := by
  apply Int32.toBitVec_inj.mp
  rw [nf_sh k hk, nI_bv]
  apply BitVec.eq_of_toNat_eq
  simp [BitVec.toNat_twoPow]
theorem nI_shr {a k : Nat} (ha : a < 2 ^ 31) (hk : k < 32) : nI a >>> (nI k &&& 31) = nI (a / 2 ^ k) := by
  refine b_ext fun i hi => ?_
  rw [b_sshr k hk _ hi]
  have hb : ∀ n j, j < 32 → bt (nI n) j = n.testBit j := by
    intro n j hj
    show (BitVec.ofNat 32 n).getLsbD j = _
    rw [BitVec.getLsbD_ofNat]
    simp [hj]
  have h31 : bt (nI a) 31 = false := by
    rw [hb a 31 (by omega)]
    exact Nat.testBit_lt_two_pow ha
  rw [hb _ i hi, h31, ← Nat.shiftRight_eq_div_pow, Nat.testBit_shiftRight]
  split
  · rename_i h
    rw [hb a (k + i) h]
  · rename_i h
    symm
    exact Nat.testBit_lt_two_pow (Nat.lt_of_lt_of_le ha (Nat.pow_le_pow_right (by omega) (by omega)))
theorem nI_bit {a k : Nat} (ha : a < 2 ^ 31) (hk : k < 32) : (nI a >>> (nI k &&& 31)) &&& 1 = nI (a / 2 ^ k % 2) := by
  rw [nI_shr ha hk, nI_lit 1, nI_and]
  congr 1
  exact Nat.and_one_is_mod _
/-- counting bits below k -/
def bc (n : Nat) : Nat → Nat
  | 0 => 0
  | k + 1 => bc n k + n / 2 ^ k % 2
theorem bc_le (n k : Nat) : bc n k ≤ k := by
  induction k with
  | zero => simp [bc]
  | succ k ih => have : n / 2 ^ k % 2 < 2 := Nat.mod_lt _ (by omega); simp only [bc]; omega
