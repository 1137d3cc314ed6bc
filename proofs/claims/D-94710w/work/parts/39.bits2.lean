/-! NUMBERS, third: a kind of numbers below n as one number's bits -/
def bs (p : Nat → Bool) : Nat → Nat
  | 0 => 0
  | n + 1 => bs p n + (if p n then 2 ^ n else 0)
theorem bs_lt (p : Nat → Bool) (n : Nat) : bs p n < 2 ^ n := by
  induction n with
  | zero => simp [bs]
  | succ n ih =>
    simp only [bs, Nat.pow_succ]
    split <;> omega
theorem tb_add {x n : Nat} (h : x < 2 ^ n) (k : Nat) : (x + 2 ^ n).testBit k = (decide (k = n) || x.testBit k) := by
  rcases Nat.lt_trichotomy k n with e | e | e
  · rw [Nat.add_comm, Nat.testBit_two_pow_add_gt e]
    have : ¬ k = n := by omega
    simp [this]
  · subst e
    rw [Nat.add_comm, Nat.testBit_two_pow_add_eq, Nat.testBit_lt_two_pow h]
    simp
  · have h1 : x + 2 ^ n < 2 ^ k := by
      have : 2 ^ (n + 1) ≤ 2 ^ k := Nat.pow_le_pow_right (by omega) (by omega)
      rw [Nat.pow_succ] at this
      omega
    have h2 : x < 2 ^ k := by omega
    have : ¬ k = n := by omega
    rw [Nat.testBit_lt_two_pow h1, Nat.testBit_lt_two_pow h2]
    simp [this]
theorem bs_bit (p : Nat → Bool) (n k : Nat) : (bs p n).testBit k = (decide (k < n) && p k) := by
  induction n with
  | zero => simp [bs]
  | succ n ih =>
    have hl := bs_lt p n
    simp only [bs]
    have e1 : ∀ q : Bool, (decide (k < n + 1) && q) = ((decide (k = n) && q) || (decide (k < n) && q)) := by
      intro q
      cases q with
      | false => simp
      | true =>
        simp only [Bool.and_true]
        by_cases e : k = n
        · subst e; simp
        · by_cases e2 : k < n
          · simp [e2]; omega
          · simp [e, e2]; omega
    by_cases hp : p n = true
    · rw [if_pos hp, tb_add hl, ih, e1]
      by_cases e : k = n
      · subst e; simp [hp]
      · simp [e]
    · rw [if_neg hp, Nat.add_zero, ih, e1]
      by_cases e : k = n
      · subst e; simp [hp]
      · simp [e]
theorem bit_div (a k : Nat) : a / 2 ^ k % 2 = if a.testBit k then 1 else 0 := by
  have h2 : a / 2 ^ k % 2 < 2 := Nat.mod_lt _ (by omega)
  have ht : a.testBit k = decide (a / 2 ^ k % 2 = 1) := Nat.testBit_eq_decide_div_mod_eq
  rw [ht]
  split
  · rename_i h; simpa using h
  · rename_i h; simp only [decide_eq_true_eq] at h; omega
theorem bc_cnt (a n : Nat) : bc a n = cnt (fun k => a.testBit k) n := by
  induction n with
  | zero => rfl
  | succ n ih => simp only [bc, cnt, ih, bit_div]
theorem cnt_cong {p q : Nat → Bool} {n : Nat} (h : ∀ k, k < n → p k = q k) : cnt p n = cnt q n := by
  induction n with
  | zero => rfl
  | succ n ih => simp only [cnt]; rw [ih (fun k hk => h k (by omega)), h n (by omega)]
theorem cnt_more {p : Nat → Bool} {n : Nat} (m : Nat) (h : ∀ k, n ≤ k → k < n + m → p k = false) : cnt p (n + m) = cnt p n := by
  induction m with
  | zero => rfl
  | succ m ih =>
    show cnt p (n + m) + (if p (n + m) then 1 else 0) = _
    rw [ih (fun k h1 h2 => h k h1 (by omega)), h (n + m) (by omega) (by omega)]
    rfl
theorem bc_small {a n m : Nat} (ha : a < 2 ^ n) (h : n ≤ m) : bc a m = bc a n := by
  rw [bc_cnt, bc_cnt, show m = n + (m - n) by omega]
  exact cnt_more (m - n) (fun k h1 _ => Nat.testBit_lt_two_pow (Nat.lt_of_lt_of_le ha (Nat.pow_le_pow_right (by omega) h1)))
theorem bc_bs (p : Nat → Bool) {n m : Nat} (h : n ≤ m) : bc (bs p n) m = cnt p n := by
  rw [bc_small (bs_lt p n) h, bc_cnt]
  exact cnt_cong (fun k hk => by rw [bs_bit]; simp [hk])
theorem bs_all (p : Nat → Bool) (n : Nat) : bs p n = 2 ^ n - 1 ↔ allB p n = true := by
  induction n with
  | zero => simp [bs, allB]
  | succ n ih =>
    have hl := bs_lt p n
    have hp : 0 < 2 ^ n := Nat.two_pow_pos n
    simp only [bs, allB, Bool.and_eq_true, ← ih, Nat.pow_succ]
    constructor
    · intro h
      split at h
      · rename_i h1; exact ⟨by omega, h1⟩
      · omega
    · rintro ⟨h1, h2⟩
      rw [if_pos h2]
      omega
theorem bs_cong {p q : Nat → Bool} {n : Nat} (h : ∀ k, k < n → p k = q k) : bs p n = bs q n := by
  induction n with
  | zero => rfl
  | succ n ih => simp only [bs]; rw [ih (fun k hk => h k (by omega)), h n (by omega)]
theorem or_pow {x n : Nat} (h : x < 2 ^ n) : x ||| 2 ^ n = x + 2 ^ n := by
  apply Nat.eq_of_testBit_eq
  intro i
  rw [Nat.testBit_or, tb_add h, Nat.testBit_two_pow, Bool.or_comm]
  congr 1
  simp [eq_comm]
/-- no bit of a lies outside b -/
theorem and_not {a b : Nat} (ha : a < 2 ^ 31) (hb : b < 2 ^ 31) : (nI a &&& (nI b ^^^ (-1))) = 0 ↔ ∀ k, k < 31 → a.testBit k = true → b.testBit k = true := by
  have hbt : ∀ n j, j < 32 → bt (nI n) j = n.testBit j := by
    intro n j hj
    show (BitVec.ofNat 32 n).getLsbD j = _
    rw [BitVec.getLsbD_ofNat]
    simp [hj]
  constructor
  · intro h k hk hak
    have h1 := congrArg (fun x => bt x k) h
    simp only [b_and, b_xor, b_m1 k (by omega), b_0, hbt a k (by omega), hbt b k (by omega), hak] at h1
    simpa using h1
  · intro h
    refine b_ext fun k hk => ?_
    rw [b_and, b_xor, b_m1 k hk, b_0, hbt a k hk, hbt b k hk]
    by_cases e : k < 31
    · cases hak : a.testBit k with
      | false => simp
      | true => simp [h k e hak]
    · have : a.testBit k = false := Nat.testBit_lt_two_pow (Nat.lt_of_lt_of_le ha (Nat.pow_le_pow_right (by omega) (by omega)))
      simp [this]
/-- remainder by two -/
theorem nI_mod2 {a : Nat} (ha : a < 2 ^ 31) : nI a - nI a / 2 * 2 = nI (a % 2) := pk_rem (d := 2) ha (by decide) (by decide)
