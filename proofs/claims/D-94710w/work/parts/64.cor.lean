/-! CORNERS: fours of rays that are square to each other; how many there can be -/
theorem cnt_split (p q : Nat → Bool) (n : Nat) : cnt (fun i => p i && q i) n + cnt (fun i => p i && !q i) n = cnt p n := by
  induction n with
  | zero => rfl
  | succ n ih =>
    simp only [cnt_s]
    cases p n <;> cases q n <;> simp <;> omega
theorem cnt_one {p : Nat → Bool} {v n : Nat} (hv : v < n) (hp : p v = true) : cnt p n = cnt (fun i => p i && decide (i ≠ v)) n + 1 := by
  induction n with
  | zero => omega
  | succ n ih =>
    simp only [cnt_s]
    by_cases e : v = n
    · subst e
      have h1 : cnt (fun i => p i && decide (i ≠ v)) v = cnt p v := cnt_cong (fun k hk => by simp [show k ≠ v by omega])
      rw [h1]
      simp [hp]
    · rw [ih (by omega)]
      simp [show n ≠ v by omega]
      omega
theorem cnt_zero {p : Nat → Bool} {n : Nat} (h : cnt p n = 0) : ∀ k, k < n → p k = false := by
  induction n with
  | zero => intro k hk; omega
  | succ n ih =>
    intro k hk
    rw [cnt_s] at h
    by_cases e : k = n
    · subst e
      cases hp : p k with
      | false => rfl
      | true => rw [hp] at h; simp at h
    · exact ih (by omega) k (by omega)
theorem argmax (p : Nat → Bool) (f : Nat → Nat) : ∀ n, (∃ k, k < n ∧ p k = true) → ∃ v, v < n ∧ p v = true ∧ ∀ u, u < n → p u = true → f u ≤ f v := by
  intro n
  induction n with
  | zero => rintro ⟨k, hk, _⟩; omega
  | succ n ih =>
    rintro ⟨k, hk, pk⟩
    by_cases c : ∃ k, k < n ∧ p k = true
    · obtain ⟨v, h1, h2, h3⟩ := ih c
      by_cases c2 : p n = true ∧ f v < f n
      · refine ⟨n, by omega, c2.1, fun u hu pu => ?_⟩
        by_cases e : u = n
        · rw [e]; exact Nat.le_refl _
        · have := h3 u (by omega) pu
          omega
      · refine ⟨v, by omega, h2, fun u hu pu => ?_⟩
        by_cases e : u = n
        · subst e
          apply Nat.le_of_not_lt
          intro q
          exact c2 ⟨pu, q⟩
        · exact h3 u (by omega) pu
    · have e : k = n := by
        apply Decidable.byContradiction
        intro q
        exact c ⟨k, by omega, pk⟩
      subst e
      refine ⟨k, by omega, pk, fun u hu pu => ?_⟩
      by_cases e : u = k
      · rw [e]; exact Nat.le_refl _
      · exact absurd ⟨u, by omega, pu⟩ c
theorem pigeon (B : Nat → Bool) (M : Nat) : ∀ n (X : List Nat), (∀ x ∈ X, ∃ u, u < n ∧ B u = true ∧ x.testBit u = true) → (∀ u, u < n → B u = true → (X.filter (fun x => x.testBit u)).length ≤ M) → X.length ≤ cnt B n * M := by
  intro n
  induction n with
  | zero =>
    intro X h1 _
    cases X with
    | nil => simp
    | cons x X => obtain ⟨u, hu, _⟩ := h1 x List.mem_cons_self; omega
  | succ n ih =>
    intro X h1 h2
    rw [cnt_s]
    cases hB : B n with
    | false =>
      simp only [Bool.toNat_false, Nat.add_zero]
      refine ih X (fun x hx => ?_) (fun u hu => h2 u (by omega))
      obtain ⟨u, g1, g2, g3⟩ := h1 x hx
      refine ⟨u, ?_, g2, g3⟩
      by_cases e : u = n
      · subst e; rw [hB] at g2; cases g2
      · omega
    | true =>
      simp only [Bool.toNat_true]
      have e1 : X.length = (X.filter (fun x => x.testBit n)).length + (X.filter (fun x => !x.testBit n)).length := by
        clear h1 h2 ih
        induction X with
        | nil => rfl
        | cons x X ih =>
          simp only [List.filter_cons]
          cases x.testBit n <;> simp <;> omega
      have h3 := h2 n (by omega) hB
      have h4 := ih (X.filter (fun x => !x.testBit n)) (fun x hx => by
        have hx2 := (List.mem_filter.mp hx)
        obtain ⟨u, g1, g2, g3⟩ := h1 x hx2.1
        refine ⟨u, ?_, g2, g3⟩
        by_cases e : u = n
        · subst e; have := hx2.2; rw [g3] at this; cases this
        · omega) (fun u hu hBu => by
        refine Nat.le_trans ?_ (h2 u (by omega) hBu)
        exact (List.Sublist.filter _ List.filter_sublist).length_le)
      rw [Nat.add_mul, Nat.one_mul, e1]
      omega
/-- a clique of r vertices, as bits -/
def kq (e : Nat → Nat → Bool) (A : Nat → Bool) (n r x : Nat) : Prop := x < 2 ^ n ∧ cnt (fun i => x.testBit i) n = r ∧ (∀ i, x.testBit i = true → A i = true) ∧ ∀ i j, x.testBit i = true → x.testBit j = true → i ≠ j → e i j = true
def fm : Nat → Nat → Nat
  | 0, _ => 1
  | r + 1, a => fo (fun b m => Nat.max m (b * fm r (a - b))) (a + 1) 0
theorem fm_ge (r a b : Nat) (h : b ≤ a) : b * fm r (a - b) ≤ fm (r + 1) a := by
  have key : ∀ n, b < n → b * fm r (a - b) ≤ fo (fun b m => Nat.max m (b * fm r (a - b))) n 0 := by
    intro n
    induction n with
    | zero => intro h; omega
    | succ n ih =>
      intro hb
      show _ ≤ Nat.max _ _
      by_cases e : b = n
      · rw [e]; exact Nat.le_max_right _ _
      · exact Nat.le_trans (ih (by omega)) (Nat.le_max_left _ _)
  exact key (a + 1) (by omega)
theorem xor_bit (x v i : Nat) : (x ^^^ 2 ^ v).testBit i = (x.testBit i ^^ decide (v = i)) := by
  rw [Nat.testBit_xor, Nat.testBit_two_pow]
theorem xor_lt {x v n : Nat} (hx : x < 2 ^ n) (hv : v < n) : x ^^^ 2 ^ v < 2 ^ n := Nat.xor_lt_two_pow hx (Nat.pow_lt_pow_right (by omega) hv)
section KB
variable {e : Nat → Nat → Bool} {n : Nat}
theorem kq_add (hs : ∀ i j, e i j = e j i) (hi : ∀ i, e i i = false) {A : Nat → Bool} {r y v : Nat} (h : kq e (fun i => A i && e v i) n r y) (hA : A v = true) (hv : v < n) : kq e A n (r + 1) (y ^^^ 2 ^ v) := by
  obtain ⟨h1, h2, h3, h4⟩ := h
  have hy : y.testBit v = false := by
    cases hb : y.testBit v with
    | false => rfl
    | true => have := h3 v hb; simp [hi v] at this
  have hb : ∀ i, (y ^^^ 2 ^ v).testBit i = true → y.testBit i = true ∨ i = v := by
    intro i h
    rw [xor_bit] at h
    by_cases c : v = i
    · exact Or.inr c.symm
    · left; simpa [c] using h
  refine ⟨xor_lt h1 hv, ?_, fun i h => ?_, fun i j hi' hj' hne => ?_⟩
  · rw [cnt_one (v := v) hv (by rw [xor_bit, hy]; simp), ← h2]
    congr 1
    refine cnt_cong (fun k hk => ?_)
    rw [xor_bit]
    by_cases c : v = k
    · subst c; simp [hy]
    · simp [c, show k ≠ v from fun q => c q.symm]
  · rcases hb i h with g | g
    · have := h3 i g; simp only [Bool.and_eq_true] at this; exact this.1
    · rw [g]; exact hA
  · rcases hb i hi' with g | g
    · rcases hb j hj' with g2 | g2
      · exact h4 i j g g2 hne
      · rw [g2, hs]; have := h3 i g; simp only [Bool.and_eq_true] at this; exact this.2
    · rcases hb j hj' with g2 | g2
      · rw [g]; have := h3 j g2; simp only [Bool.and_eq_true] at this; exact this.2
      · exact absurd (g.trans g2.symm) hne
theorem kq_rem {A : Nat → Bool} {r x v : Nat} (h : kq e A n (r + 1) x) (hb : x.testBit v = true) (hv : v < n) : kq e (fun i => A i && e v i) n r (x ^^^ 2 ^ v) := by
  obtain ⟨h1, h2, h3, h4⟩ := h
  have hbit : ∀ i, (x ^^^ 2 ^ v).testBit i = true → x.testBit i = true ∧ i ≠ v := by
    intro i h
    rw [xor_bit] at h
    by_cases c : v = i
    · subst c; simp [hb] at h
    · exact ⟨by simpa [c] using h, fun q => c q.symm⟩
  refine ⟨xor_lt h1 hv, ?_, fun i h => ?_, fun i j hi hj hne => h4 i j (hbit i hi).1 (hbit j hj).1 hne⟩
  · rw [cnt_one (v := v) hv hb] at h2
    have : cnt (fun i => (x ^^^ 2 ^ v).testBit i) n = cnt (fun i => x.testBit i && decide (i ≠ v)) n := by
      refine cnt_cong (fun k hk => ?_)
      rw [xor_bit]
      by_cases c : v = k
      · subst c; simp [hb]
      · simp [c, show k ≠ v from fun q => c q.symm]
    omega
  · obtain ⟨g1, g2⟩ := hbit i h
    show (A i && e v i) = true
    rw [h3 i g1, h4 v i hb g1 (fun q => g2 q.symm)]
    rfl
theorem kb (hs : ∀ i j, e i j = e j i) (hi : ∀ i, e i i = false) : ∀ (r : Nat) (A : Nat → Bool) (X : List Nat), X.Nodup → (∀ x ∈ X, kq e A n r x) → (∀ x, ¬ kq e A n (r + 1) x) → X.length ≤ fm r (cnt A n) := by
  intro r
  induction r with
  | zero =>
    intro A X hX h _
    have h0 : ∀ x ∈ X, x = 0 := by
      intro x hx
      obtain ⟨h1, h2, -⟩ := h x hx
      apply Nat.eq_of_testBit_eq
      intro i
      rw [Nat.zero_testBit]
      by_cases c : i < n
      · exact cnt_zero h2 i c
      · exact Nat.testBit_lt_two_pow (Nat.lt_of_lt_of_le h1 (Nat.pow_le_pow_right (by omega) (by omega)))
    match X, hX, h0 with
    | [], _, _ => simp
    | [x], _, _ => simp [fm]
    | x :: y :: X, hX, h0 =>
      exfalso
      have e1 := h0 x (by simp)
      have e2 := h0 y (by simp)
      subst e1
      subst e2
      simp at hX
  | succ r ih =>
    intro A X hX h hno
    by_cases c : X = []
    · subst c; simp
    · obtain ⟨x0, hx0⟩ := List.exists_mem_of_ne_nil X c
      have hA : ∃ k, k < n ∧ A k = true := by
        obtain ⟨h1, h2, h3, -⟩ := h x0 hx0
        apply Classical.byContradiction
        intro q
        have : cnt (fun i => x0.testBit i) n = 0 := by
          have hz : ∀ m, m ≤ n → cnt (fun i => x0.testBit i) m = 0 := by
            intro m
            induction m with
            | zero => intro _; rfl
            | succ m ihm =>
              intro hm
              rw [cnt_s, ihm (by omega)]
              cases hb : x0.testBit m with
              | false => rfl
              | true => exact absurd ⟨m, by omega, h3 m hb⟩ q
          exact hz n (Nat.le_refl _)
        omega
      obtain ⟨v, hv, pv, hmax⟩ := argmax A (fun u => (X.filter (fun x => x.testBit u)).length) n hA
      have h1 := pigeon (fun i => A i && !e v i) ((X.filter (fun x => x.testBit v)).length) n X (fun x hx => by
        obtain ⟨g1, g2, g3, g4⟩ := h x hx
        apply Classical.byContradiction
        intro q
        refine hno (x ^^^ 2 ^ v) (kq_add hs hi ⟨g1, g2, fun i hb => ?_, g4⟩ pv hv)
        have hin : i < n := by
          apply Decidable.byContradiction
          intro z
          have := Nat.testBit_lt_two_pow (i := i) (Nat.lt_of_lt_of_le g1 (Nat.pow_le_pow_right (by omega) (by omega)))
          rw [this] at hb
          cases hb
        have ha := g3 i hb
        cases hev : e v i with
        | true => show (A i && e v i) = true; rw [ha, hev]; rfl
        | false => exact absurd ⟨i, hin, by simp [ha, hev], hb⟩ q) (fun u hu hB => hmax u hu (by simp only [Bool.and_eq_true] at hB; exact hB.1))
      have h2 := ih (fun i => A i && e v i) ((X.filter (fun x => x.testBit v)).map (fun x => x ^^^ 2 ^ v)) (by
        refine List.pairwise_map.mpr ?_
        refine List.Pairwise.imp ?_ (List.Pairwise.filter _ hX)
        intro a b hab q
        apply hab
        have : a ^^^ 2 ^ v ^^^ 2 ^ v = b ^^^ 2 ^ v ^^^ 2 ^ v := by rw [q]
        simpa [Nat.xor_assoc] using this) (fun y hy => by
        obtain ⟨x, hx, rfl⟩ := List.mem_map.mp hy
        have hx2 := List.mem_filter.mp hx
        exact kq_rem (h x hx2.1) hx2.2 hv) (fun y hy => hno _ (kq_add hs hi hy pv hv))
      rw [List.length_map] at h2
      have h3 := cnt_split A (fun i => e v i) n
      have h4 := fm_ge r (cnt A n) (cnt (fun i => A i && !e v i) n) (by omega)
      rw [show cnt A n - cnt (fun i => A i && !e v i) n = cnt (fun i => A i && e v i) n by omega] at h4
      exact Nat.le_trans h1 (Nat.le_trans (Nat.mul_le_mul_left _ h2) h4)
end KB
/-- vectors that are square to each other are at most as many as there are sides -/
def or_D (n : Nat) (u : Nat → Nat → Int) : Nat → Int
  | 0 => 1
  | m + 1 => or_D n u m * ex_dot n (u m) (u m)
def or_B (n : Nat) (u : Nat → Nat → Int) (x : Nat → Int) : Nat → Int
  | 0 => 0
  | m + 1 => or_B n u x m * ex_dot n (u m) (u m) + ex_dot n x (u m) * ex_dot n x (u m) * or_D n u m
theorem or_B_smul {n : Nat} {u : Nat → Nat → Int} {x y : Nat → Int} {a : Int} : ∀ m, (∀ i, i < m → ex_dot n y (u i) = a * ex_dot n x (u i)) → or_B n u y m = a * a * or_B n u x m := by
  intro m
  induction m with
  | zero => intro _; simp [or_B]
  | succ m ih =>
    intro h
    simp only [or_B]
    rw [ih (fun i hi => h i (by omega)), h m (by omega)]
    grind
theorem or_D_pos {n : Nat} {u : Nat → Nat → Int} : ∀ m, (∀ i, i < m → 0 < ex_dot n (u i) (u i)) → 0 < or_D n u m := by
  intro m
  induction m with
  | zero => intro _; simp [or_D]
  | succ m ih => intro h; exact Int.mul_pos (ih (fun i hi => h i (by omega))) (h m (by omega))
theorem or_bessel {n : Nat} {u : Nat → Nat → Int} : ∀ m, (∀ i, i < m → 0 < ex_dot n (u i) (u i)) → (∀ i j, i < m → j < m → i ≠ j → ex_dot n (u i) (u j) = 0) → ∀ x, or_B n u x m ≤ or_D n u m * ex_dot n x x := by
  intro m
  induction m with
  | zero => intro _ _ x; simp only [or_B, or_D, Int.one_mul]; exact ex_dot_nn
  | succ m ih =>
    intro h0 hz x
    have ih := ih (fun i hi => h0 i (by omega)) (fun i j hi hj => hz i j (by omega) (by omega)) (fun k => ex_dot n (u m) (u m) * x k + (- ex_dot n x (u m)) * u m k)
    have hN := h0 m (by omega)
    generalize hq : ex_dot n (u m) (u m) = N at *
    generalize hp : ex_dot n x (u m) = p at *
    have e1 : ∀ v, ex_dot n (fun k => N * x k + (-p) * u m k) v = N * ex_dot n x v + (-p) * ex_dot n (u m) v := by
      intro v
      rw [ex_dot_comm, ex_dot_add, ex_dot_comm, ex_dot_comm (v := u m)]
    have e2 := or_B_smul (n := n) (u := u) (x := x) (y := fun k => N * x k + (-p) * u m k) (a := N) m (fun i hi => by
      rw [e1, hz m i (by omega) (by omega) (by omega)]; omega)
    have e3 : ex_dot n (fun k => N * x k + (-p) * u m k) (fun k => N * x k + (-p) * u m k) = N * N * ex_dot n x x - N * (p * p) := by
      rw [e1, ex_dot_add, ex_dot_add, ex_dot_comm (u := u m) (v := x), hp, hq]
      grind
    rw [e2, e3] at ih
    simp only [or_B, or_D, hq, hp]
    have h1 : N * (or_B n u x m * N + p * p * or_D n u m) ≤ N * (or_D n u m * N * ex_dot n x x) := by
      have a1 : N * (or_B n u x m * N + p * p * or_D n u m) = N * N * or_B n u x m + or_D n u m * (N * (p * p)) := by grind
      have a2 : N * (or_D n u m * N * ex_dot n x x) = or_D n u m * (N * N * ex_dot n x x - N * (p * p)) + or_D n u m * (N * (p * p)) := by grind
      rw [a1, a2]
      omega
    exact Int.le_of_mul_le_mul_left h1 hN
def si : Nat → (Nat → Int) → Int
  | 0, _ => 0
  | n + 1, f => si n f + f n
theorem si_le {n : Nat} {f g : Nat → Int} (h : ∀ j, j < n → f j ≤ g j) : si n f ≤ si n g := by
  induction n with
  | zero => exact Int.le_refl _
  | succ n ih => simp only [si]; have := ih (fun j hj => h j (by omega)); have := h n (by omega); omega
theorem si_lin {n : Nat} {f g : Nat → Int} {a b : Int} : si n (fun j => f j * a + g j * b) = si n f * a + si n g * b := by
  induction n with
  | zero => simp [si]
  | succ n ih => simp only [si]; rw [ih]; grind
theorem si_cong {n : Nat} {f g : Nat → Int} (h : ∀ j, j < n → f j = g j) : si n f = si n g := by
  induction n with
  | zero => rfl
  | succ n ih => simp only [si]; rw [ih (fun j hj => h j (by omega)), h n (by omega)]
theorem si_dot {n : Nat} {v : Nat → Int} : si n (fun j => v j * v j) = ex_dot n v v := by
  induction n with
  | zero => rfl
  | succ n ih => simp only [si, ex_dot]; rw [ih]
def e_j (j : Nat) : Nat → Int := fun i => if i = j then 1 else 0
theorem e_dot0 {n j : Nat} {v : Nat → Int} (h : n ≤ j) : ex_dot n (e_j j) v = 0 := by
  induction n with
  | zero => rfl
  | succ n ih => simp only [ex_dot]; rw [ih (by omega)]; simp [e_j, show n ≠ j by omega]
theorem e_dot {n j : Nat} {v : Nat → Int} (h : j < n) : ex_dot n (e_j j) v = v j := by
  induction n with
  | zero => omega
  | succ n ih =>
    simp only [ex_dot]
    by_cases c : j = n
    · subst c; rw [e_dot0 (Nat.le_refl _)]; simp [e_j]
    · rw [ih (by omega)]; simp [e_j, show n ≠ j by omega]
theorem orth_le {n m : Nat} {u : Nat → Nat → Int} (h0 : ∀ i, i < m → 0 < ex_dot n (u i) (u i)) (hz : ∀ i j, i < m → j < m → i ≠ j → ex_dot n (u i) (u j) = 0) : m ≤ n := by
  have h1 : si n (fun j => or_B n u (e_j j) m) ≤ si n (fun _ => or_D n u m) := si_le (fun j hj => by
    have := or_bessel m h0 hz (e_j j)
    rw [e_dot hj] at this
    simpa [e_j] using this)
  have h2 : ∀ q, q ≤ m → si n (fun j => or_B n u (e_j j) q) = q * or_D n u q := by
    intro q
    induction q with
    | zero =>
      intro _
      have : ∀ k, si k (fun j => or_B n u (e_j j) 0) = 0 := by
        intro k
        induction k with
        | zero => rfl
        | succ k ih => simp only [si]; rw [ih]; simp [or_B]
      rw [this]; simp
    | succ q ih =>
      intro hq
      simp only [or_B]
      rw [si_lin (f := fun j => or_B n u (e_j j) q) (g := fun j => ex_dot n (e_j j) (u q) * ex_dot n (e_j j) (u q)), ih (by omega)]
      rw [si_cong (g := fun j => u q j * u q j) (fun j hj => by rw [e_dot hj]), si_dot]
      simp only [or_D]
      have : ((q + 1 : Nat) : Int) = (q : Int) + 1 := by omega
      rw [this]
      grind
  have h3 : ∀ k : Nat, si k (fun _ => or_D n u m) = k * or_D n u m := by
    intro k
    induction k with
    | zero => simp [si]
    | succ k ih =>
      simp only [si]; rw [ih]
      have : ((k + 1 : Nat) : Int) = (k : Int) + 1 := by omega
      rw [this]
      grind
  rw [h2 m (Nat.le_refl _), h3] at h1
  have hD := or_D_pos m h0
  have := Int.le_of_mul_le_mul_right h1 hD
  omega
