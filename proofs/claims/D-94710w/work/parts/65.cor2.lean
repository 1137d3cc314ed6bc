/-! CORNERS, second: their list; the reference lays it -/
set_option maxRecDepth 100000
def mk4 (a b c d : Nat) : Nat := 2 ^ a ||| 2 ^ b ||| 2 ^ c ||| 2 ^ d
theorem tb4 (a b c d i : Nat) : (mk4 a b c d).testBit i = true ↔ i = a ∨ i = b ∨ i = c ∨ i = d := by
  unfold mk4
  simp only [Nat.testBit_or, Nat.testBit_two_pow, Bool.or_eq_true, decide_eq_true_eq]
  constructor
  · rintro (((h | h) | h) | h) <;> omega
  · rintro (h | h | h | h) <;> omega
def cD (e : Nat → Nat → Bool) (a b c : Nat) : Nat → Nat → List Nat
  | 0, _ => []
  | m + 1, d => (if (e a d && e b d && e c d) = true then [mk4 a b c d] else []) ++ cD e a b c m (d + 1)
def cC (e : Nat → Nat → Bool) (n a b : Nat) : Nat → Nat → List Nat
  | 0, _ => []
  | m + 1, c => (if (e a c && e b c) = true then cD e a b c (n - (c + 1)) (c + 1) else []) ++ cC e n a b m (c + 1)
def cB (e : Nat → Nat → Bool) (n a : Nat) : Nat → Nat → List Nat
  | 0, _ => []
  | m + 1, b => (if e a b = true then cC e n a b (n - (b + 1)) (b + 1) else []) ++ cB e n a m (b + 1)
def cA (e : Nat → Nat → Bool) (n : Nat) : Nat → Nat → List Nat
  | 0, _ => []
  | m + 1, a => cB e n a (n - (a + 1)) (a + 1) ++ cA e n m (a + 1)
def cor (e : Nat → Nat → Bool) (n : Nat) : List Nat := cA e n n 0
theorem mem_cD {e : Nat → Nat → Bool} {a b c x : Nat} : ∀ m d, x ∈ cD e a b c m d ↔ ∃ y, d ≤ y ∧ y < d + m ∧ (e a y && e b y && e c y) = true ∧ x = mk4 a b c y := by
  intro m
  induction m with
  | zero => intro d; simp only [cD, List.not_mem_nil, false_iff]; rintro ⟨y, h1, h2, _⟩; omega
  | succ m ih =>
    intro d
    simp only [cD, List.mem_append, ih (d + 1)]
    constructor
    · rintro (h | ⟨y, h1, h2, h3, h4⟩)
      · split at h
        · rename_i q
          simp only [List.mem_singleton] at h
          exact ⟨d, by omega, by omega, q, h⟩
        · cases h
      · exact ⟨y, by omega, by omega, h3, h4⟩
    · rintro ⟨y, h1, h2, h3, h4⟩
      by_cases q : y = d
      · subst q; left; rw [if_pos h3, h4]; exact List.mem_cons_self
      · right; exact ⟨y, by omega, by omega, h3, h4⟩
theorem mem_cC {e : Nat → Nat → Bool} {n a b x : Nat} : ∀ m c, x ∈ cC e n a b m c ↔ ∃ y, c ≤ y ∧ y < c + m ∧ (e a y && e b y) = true ∧ x ∈ cD e a b y (n - (y + 1)) (y + 1) := by
  intro m
  induction m with
  | zero => intro d; simp only [cC, List.not_mem_nil, false_iff]; rintro ⟨y, h1, h2, _⟩; omega
  | succ m ih =>
    intro d
    simp only [cC, List.mem_append, ih (d + 1)]
    constructor
    · rintro (h | ⟨y, h1, h2, h3, h4⟩)
      · split at h
        · rename_i q
          exact ⟨d, by omega, by omega, q, h⟩
        · cases h
      · exact ⟨y, by omega, by omega, h3, h4⟩
    · rintro ⟨y, h1, h2, h3, h4⟩
      by_cases q : y = d
      · subst q; left; rw [if_pos h3]; exact h4
      · right; exact ⟨y, by omega, by omega, h3, h4⟩
theorem mem_cB {e : Nat → Nat → Bool} {n a x : Nat} : ∀ m b, x ∈ cB e n a m b ↔ ∃ y, b ≤ y ∧ y < b + m ∧ e a y = true ∧ x ∈ cC e n a y (n - (y + 1)) (y + 1) := by
  intro m
  induction m with
  | zero => intro d; simp only [cB, List.not_mem_nil, false_iff]; rintro ⟨y, h1, h2, _⟩; omega
  | succ m ih =>
    intro d
    simp only [cB, List.mem_append, ih (d + 1)]
    constructor
    · rintro (h | ⟨y, h1, h2, h3, h4⟩)
      · split at h
        · rename_i q
          exact ⟨d, by omega, by omega, q, h⟩
        · cases h
      · exact ⟨y, by omega, by omega, h3, h4⟩
    · rintro ⟨y, h1, h2, h3, h4⟩
      by_cases q : y = d
      · subst q; left; rw [if_pos h3]; exact h4
      · right; exact ⟨y, by omega, by omega, h3, h4⟩
theorem mem_cA {e : Nat → Nat → Bool} {n x : Nat} : ∀ m a, x ∈ cA e n m a ↔ ∃ y, a ≤ y ∧ y < a + m ∧ x ∈ cB e n y (n - (y + 1)) (y + 1) := by
  intro m
  induction m with
  | zero => intro d; simp only [cA, List.not_mem_nil, false_iff]; rintro ⟨y, h1, h2, _⟩; omega
  | succ m ih =>
    intro d
    simp only [cA, List.mem_append, ih (d + 1)]
    constructor
    · rintro (h | ⟨y, h1, h2, h4⟩)
      · exact ⟨d, by omega, by omega, h⟩
      · exact ⟨y, by omega, by omega, h4⟩
    · rintro ⟨y, h1, h2, h4⟩
      by_cases q : y = d
      · subst q; left; exact h4
      · right; exact ⟨y, by omega, by omega, h4⟩
/-- a corner: four rays, each square to each other -/
def is4 (e : Nat → Nat → Bool) (n a b c d x : Nat) : Prop := a < b ∧ b < c ∧ c < d ∧ d < n ∧ e a b = true ∧ e a c = true ∧ e b c = true ∧ e a d = true ∧ e b d = true ∧ e c d = true ∧ x = mk4 a b c d
theorem mem_cor {e : Nat → Nat → Bool} {n x : Nat} : x ∈ cor e n ↔ ∃ a b c d, is4 e n a b c d x := by
  unfold cor
  simp only [mem_cA, mem_cB, mem_cC, mem_cD, is4, Bool.and_eq_true]
  constructor
  · rintro ⟨a, h1, h2, b, h3, h4, h5, c, h6, h7, h8, d, h9, h10, h11, h12⟩
    exact ⟨a, b, c, d, by omega, by omega, by omega, by omega, h5, h8.1, h8.2, h11.1.1, h11.1.2, h11.2, h12⟩
  · rintro ⟨a, b, c, d, h1, h2, h3, h4, e1, e2, e3, e4, e5, e6, h5⟩
    exact ⟨a, by omega, by omega, b, by omega, by omega, e1, c, by omega, by omega, ⟨e2, e3⟩, d, by omega, by omega, ⟨⟨e4, e5⟩, e6⟩, h5⟩
theorem nd_cD {e : Nat → Nat → Bool} {a b c : Nat} (h1 : a < b) (h2 : b < c) : ∀ m d, c < d → (cD e a b c m d).Pairwise (· ≠ ·) := by
  intro m
  induction m with
  | zero => intro d _; exact List.Pairwise.nil
  | succ m ih =>
    intro d hd
    simp only [cD]
    refine List.pairwise_append.mpr ⟨by split <;> simp, ih (d + 1) (by omega), fun x hx y hy q => ?_⟩
    split at hx
    · simp only [List.mem_singleton] at hx
      obtain ⟨z, g1, g2, g3, g4⟩ := (mem_cD _ _).mp hy
      have : (mk4 a b c d).testBit d = true := (tb4 a b c d d).mpr (by omega)
      rw [← hx, q, g4, tb4] at this
      omega
    · cases hx
theorem nd_cC {e : Nat → Nat → Bool} {n a b : Nat} (h1 : a < b) : ∀ m c, b < c → (cC e n a b m c).Pairwise (· ≠ ·) := by
  intro m
  induction m with
  | zero => intro d _; exact List.Pairwise.nil
  | succ m ih =>
    intro c hc
    simp only [cC]
    refine List.pairwise_append.mpr ⟨?_, ih (c + 1) (by omega), fun x hx y hy q => ?_⟩
    · split
      · exact nd_cD h1 hc _ _ (by omega)
      · exact List.Pairwise.nil
    · split at hx
      · obtain ⟨z, g1, g2, g3, g4⟩ := (mem_cD _ _).mp hx
        obtain ⟨w, f1, f2, f3, f4⟩ := (mem_cC _ _).mp hy
        obtain ⟨v, k1, k2, k3, k4⟩ := (mem_cD _ _).mp f4
        have : (mk4 a b c z).testBit c = true := (tb4 a b c z c).mpr (by omega)
        rw [← g4, q, k4, tb4] at this
        omega
      · cases hx
theorem nd_cB {e : Nat → Nat → Bool} {n a : Nat} : ∀ m b, a < b → (cB e n a m b).Pairwise (· ≠ ·) := by
  intro m
  induction m with
  | zero => intro d _; exact List.Pairwise.nil
  | succ m ih =>
    intro b hb
    simp only [cB]
    refine List.pairwise_append.mpr ⟨?_, ih (b + 1) (by omega), fun x hx y hy q => ?_⟩
    · split
      · exact nd_cC hb _ _ (by omega)
      · exact List.Pairwise.nil
    · split at hx
      · obtain ⟨z0, g01, g02, g03, g04⟩ := (mem_cC _ _).mp hx
        obtain ⟨z, g1, g2, g3, g4⟩ := (mem_cD _ _).mp g04
        obtain ⟨w0, f01, f02, f03, f04⟩ := (mem_cB _ _).mp hy
        obtain ⟨w, f1, f2, f3, f4⟩ := (mem_cC _ _).mp f04
        obtain ⟨v, k1, k2, k3, k4⟩ := (mem_cD _ _).mp f4
        have : (mk4 a b z0 z).testBit b = true := (tb4 a b z0 z b).mpr (by omega)
        rw [← g4, q, k4, tb4] at this
        omega
      · cases hx
theorem nd_cA {e : Nat → Nat → Bool} {n : Nat} : ∀ m a, (cA e n m a).Pairwise (· ≠ ·) := by
  intro m
  induction m with
  | zero => intro d; exact List.Pairwise.nil
  | succ m ih =>
    intro a
    simp only [cA]
    refine List.pairwise_append.mpr ⟨nd_cB _ _ (by omega), ih (a + 1), fun x hx y hy q => ?_⟩
    obtain ⟨y0, d1, d2, d3, d4⟩ := (mem_cB _ _).mp hx
    obtain ⟨z0, g01, g02, g03, g04⟩ := (mem_cC _ _).mp d4
    obtain ⟨z, g1, g2, g3, g4⟩ := (mem_cD _ _).mp g04
    obtain ⟨x0, c1, c2, c3⟩ := (mem_cA _ _).mp hy
    obtain ⟨w0, f01, f02, f03, f04⟩ := (mem_cB _ _).mp c3
    obtain ⟨w, f1, f2, f3, f4⟩ := (mem_cC _ _).mp f04
    obtain ⟨v, k1, k2, k3, k4⟩ := (mem_cD _ _).mp f4
    have : (mk4 a y0 z0 z).testBit a = true := (tb4 a y0 z0 z a).mpr (by omega)
    rw [← g4, q, k4, tb4] at this
    omega
theorem cnt_or {x v n : Nat} (hv : v < n) (hx : x.testBit v = false) : cnt (fun i => (x ||| 2 ^ v).testBit i) n = cnt (fun i => x.testBit i) n + 1 := by
  rw [cnt_one (v := v) hv (by rw [Nat.testBit_or, Nat.testBit_two_pow]; simp)]
  congr 1
  refine cnt_cong (fun k hk => ?_)
  rw [Nat.testBit_or, Nat.testBit_two_pow]
  by_cases c : v = k
  · subst c; simp [hx]
  · simp [c, show k ≠ v from fun q => c q.symm]
theorem is4_kq {e : Nat → Nat → Bool} (hs : ∀ i j, e i j = e j i) {n a b c d x : Nat} (h : is4 e n a b c d x) : kq e (fun _ => true) n 4 x := by
  obtain ⟨h1, h2, h3, h4, e1, e2, e3, e4, e5, e6, rfl⟩ := h
  have p : ∀ k, k < n → 2 ^ k < 2 ^ n := fun k hk => Nat.pow_lt_pow_right (by omega) hk
  have t2 := fun i => tb2 a b i
  refine ⟨?_, ?_, fun _ _ => rfl, fun i j hi hj hij => ?_⟩
  · exact Nat.or_lt_two_pow (Nat.or_lt_two_pow (Nat.or_lt_two_pow (p a (by omega)) (p b (by omega))) (p c (by omega))) (p d h4)
  · unfold mk4
    rw [cnt_or h4, cnt_or (by omega), cnt_or (by omega)]
    · have := cnt_or (x := 0) (v := a) (n := n) (by omega) (Nat.zero_testBit a)
      rw [Nat.zero_or] at this
      rw [this]
      have z : ∀ m, cnt (fun i => (0 : Nat).testBit i) m = 0 := by
        intro m
        induction m with
        | zero => rfl
        | succ m ih => rw [cnt_s, ih]; simp
      rw [z]
    · rw [Nat.testBit_two_pow]; simp; omega
    · rw [tb2]; simp; omega
    · rw [Nat.testBit_or, tb2, Nat.testBit_two_pow]; simp; omega
  · rw [tb4] at hi hj
    rcases hi with rfl | rfl | rfl | rfl <;> rcases hj with rfl | rfl | rfl | rfl <;> first | exact absurd rfl hij | assumption | (rw [hs]; assumption)
/-- so many of a kind, by number -/
theorem cnt_pick {p : Nat → Bool} : ∀ n r, cnt p n = r → ∃ f : Nat → Nat, (∀ i, i < r → f i < n ∧ p (f i) = true) ∧ ∀ i j, i < r → j < r → i ≠ j → f i ≠ f j := by
  intro n
  induction n with
  | zero => intro r h; subst h; exact ⟨fun _ => 0, fun i hi => by simp [cnt] at hi, fun i j hi => by simp [cnt] at hi⟩
  | succ n ih =>
    intro r h
    rw [cnt_s] at h
    cases hp : p n with
    | false =>
      rw [hp] at h
      obtain ⟨f, h1, h2⟩ := ih r (by simpa using h)
      exact ⟨f, fun i hi => ⟨by have := (h1 i hi).1; omega, (h1 i hi).2⟩, h2⟩
    | true =>
      rw [hp] at h
      simp only [Bool.toNat_true] at h
      obtain ⟨f, h1, h2⟩ := ih (r - 1) (by omega)
      refine ⟨fun i => if i = r - 1 then n else f i, fun i hi => ?_, fun i j hi hj hij => ?_⟩
      · dsimp only
        split
        · exact ⟨by omega, hp⟩
        · have := h1 i (by omega); exact ⟨by omega, this.2⟩
      · dsimp only
        split
        · split
          · omega
          · have := (h1 j (by omega)).1; omega
        · split
          · have := (h1 i (by omega)).1; omega
          · exact h2 i j (by omega) (by omega) hij
/-- rays of a book: square to each other -/
def re (B : zs_B) (a b : Nat) : Bool := decide (a ≠ b) && decide (zs_dot (zs_ra B a) (zs_ra B b) = 0)
theorem dot4 (a b : Nat → Int) : zs_dot a b = ex_dot 4 a b := by simp [zs_dot, ex_dot]
theorem re_comm (B : zs_B) (i j : Nat) : re B i j = re B j i := by
  unfold re
  rw [dot4, dot4, ex_dot_comm]
  congr 1
  simp [eq_comm]
theorem re_self (B : zs_B) (i : Nat) : re B i i = false := by simp [re]
theorem cor_le {L : Nat} {B : zs_B} (hB : zs_bok L B) (e : Nat → Nat → Bool) (he : ∀ i j, e i j = true → re B i j = true) (hs : ∀ i j, e i j = e j i) : (cor e B.2.2.1.length).length ≤ 400 := by
  have h18 := hB.2.2.2.1
  have hi : ∀ i, e i i = false := fun i => by
    cases q : e i i with
    | false => rfl
    | true => have := he i i q; rw [re_self] at this; cases this
  have h1 := kb (n := B.2.2.1.length) hs hi 4 (fun _ => true) (cor e B.2.2.1.length) (nd_cA _ _) (fun x hx => by
    obtain ⟨a, b, c, d, h⟩ := mem_cor.mp hx
    exact is4_kq hs h) (fun x hx => by
    obtain ⟨-, h2, -, h4⟩ := hx
    obtain ⟨f, f1, f2⟩ := cnt_pick _ _ h2
    have h5 : 4 + 1 ≤ 4 := orth_le (n := 4) (m := 4 + 1) (u := fun i => zs_ra B (f i)) (fun i hi => by
      obtain ⟨-, k, hk, hne⟩ := hB.2.2.2.2.1 _ (ra_mem (f1 i hi).1)
      have := ex_dot_one (n := 4) (v := zs_ra B (f i)) hk
      have hp : 0 < zs_ra B (f i) k * zs_ra B (f i) k := by
        rcases Int.lt_trichotomy (zs_ra B (f i) k) 0 with q | q | q
        · exact Int.mul_pos_of_neg_of_neg q q
        · exact absurd q hne
        · exact Int.mul_pos q q
      omega) (fun i j hi hj hij => by
      have := he _ _ (h4 (f i) (f j) (f1 i hi).2 (f1 j hj).2 (f2 i j hi hj hij))
      simp only [re, Bool.and_eq_true, decide_eq_true_eq, dot4] at this
      exact this.2)
    omega)
  have hc : cnt (fun _ => true) B.2.2.1.length = B.2.2.1.length := by
    have : ∀ m, cnt (fun _ => true) m = m := by
      intro m
      induction m with
      | zero => rfl
      | succ m ih => rw [cnt_s, ih]; rfl
    exact this _
  rw [hc] at h1
  have h2 : ∀ k, k < 19 → fm 4 k ≤ 400 := by decide +kernel
  exact Nat.le_trans h1 (h2 _ (by omega))
