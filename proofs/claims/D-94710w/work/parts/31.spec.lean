/-! THE COMMON VALUES: sets, tables, books -/
/-- a set of looks: its look, its second look, how often each outcome came, coins on each outcome -/
abbrev zs_E : Type := Nat × Option Nat × (Nat → Nat) × (Nat → Nat)
abbrev zs_T : Type := List zs_E
def zs_out (e : zs_E) : Nat := match e.2.1 with
  | none => 2
  | some _ => 4
/-- the outcome that a hidden answer fits -/
def zs_fit (e : zs_E) (h : Nat) : Nat := match e.2.1 with
  | none => h / 2 ^ e.1 % 2
  | some b => 2 * (h / 2 ^ e.1 % 2) + h / 2 ^ b % 2
theorem zs_fit_lt (e : zs_E) (h : Nat) : zs_fit e h < zs_out e := by
  obtain ⟨a, b, t, c⟩ := e
  have h1 : h / 2 ^ a % 2 < 2 := Nat.mod_lt _ (by omega)
  cases b with
  | none => exact h1
  | some b =>
    have h2 : h / 2 ^ b % 2 < 2 := Nat.mod_lt _ (by omega)
    show 2 * (h / 2 ^ a % 2) + h / 2 ^ b % 2 < 4
    omega
theorem zs_out_le (e : zs_E) : zs_out e ≤ 4 := by
  unfold zs_out
  split <;> omega
/-- what holds of a table of a book with so many looks and so many tries -/
def zs_ok (L N : Nat) (T : zs_T) : Prop := T.length ≤ 8 ∧ ∀ e ∈ T, e.1 < L ∧ (∀ b, e.2.1 = some b → b < L ∧ b ≠ e.1) ∧ (match e.2.1 with
  | none => e.2.2.1 0 + e.2.2.1 1 = N
  | some _ => e.2.2.1 0 + e.2.2.1 1 + e.2.2.1 2 + e.2.2.1 3 = N) ∧ ∀ o, o < 4 → e.2.2.2 o ≤ 99
/-- a fold over 0, 1, .. n - 1 -/
def fo {α : Type} (f : Nat → α → α) : Nat → α → α
  | 0, a => a
  | n + 1, a => f n (fo f n a)
/-- the first so many of a kind: how many below n hold -/
def cnt (p : Nat → Bool) : Nat → Nat
  | 0 => 0
  | n + 1 => cnt p n + (if p n then 1 else 0)
theorem cnt_le (p : Nat → Bool) (n : Nat) : cnt p n ≤ n := by
  induction n with
  | zero => simp [cnt]
  | succ n ih => simp only [cnt]; split <;> omega
/-- an array as a table -/
def ta_sec (b : Option Nat) : Int32 := match b with
  | none => -2
  | some b => nI b
def ta_tab (a : Nat → Int32) (T : zs_T) : Prop := a 0 = nI T.length ∧ ∀ (k : Nat) (e : zs_E), T[k]? = some e → a (1 + k) = nI e.1 ∧ a (9 + k) = ta_sec e.2.1 ∧ ∀ o, o < zs_out e → a (17 + 4 * k + o) = nI (e.2.2.1 o)
def ta_coin (c : Nat → Int32) (T : zs_T) : Prop := ∀ (k : Nat) (e : zs_E), T[k]? = some e → ∀ o, o < zs_out e → c (4 * k + o) = nI (e.2.2.2 o)
theorem ta_sec_none {b : Option Nat} (h : ∀ x, b = some x → x < 6) : ta_sec b = -2 ↔ b = none := by
  cases b with
  | none => simp [ta_sec]
  | some x =>
    have hx := h x rfl
    simp only [ta_sec, reduceCtorEq, iff_false]
    intro e
    have : ∀ k, k < 6 → nI k ≠ -2 := by decide
    exact this x hx e
def allB (p : Nat → Bool) : Nat → Bool
  | 0 => true
  | n + 1 => allB p n && p n
def anyB (p : Nat → Bool) : Nat → Bool
  | 0 => false
  | n + 1 => anyB p n || p n
theorem allB_iff (p : Nat → Bool) (n : Nat) : allB p n = true ↔ ∀ k, k < n → p k = true := by
  induction n with
  | zero => simp [allB]
  | succ n ih =>
    simp only [allB, Bool.and_eq_true, ih]
    constructor
    · rintro ⟨h1, h2⟩ k hk
      by_cases e : k = n
      · rw [e]; exact h2
      · exact h1 k (by omega)
    · intro h1
      exact ⟨fun k hk => h1 k (by omega), h1 n (by omega)⟩
theorem anyB_iff (p : Nat → Bool) (n : Nat) : anyB p n = true ↔ ∃ k, k < n ∧ p k = true := by
  induction n with
  | zero => simp [anyB]
  | succ n ih =>
    simp only [anyB, Bool.or_eq_true, ih]
    constructor
    · rintro (⟨k, h1, h2⟩ | h1)
      · exact ⟨k, by omega, h2⟩
      · exact ⟨n, by omega, h1⟩
    · rintro ⟨k, h1, h2⟩
      by_cases e : k = n
      · right; rw [← e]; exact h2
      · exact Or.inl ⟨k, by omega, h2⟩
/-- the k-th set, or one of nothing -/
def zs_at (T : zs_T) (k : Nat) : zs_E := (T[k]?).getD (0, none, fun _ => 0, fun _ => 0)
theorem zs_at_eq {T : zs_T} {k : Nat} {e : zs_E} (h : T[k]? = some e) : zs_at T k = e := by simp [zs_at, h]
theorem zs_get {T : zs_T} {k : Nat} (h : k < T.length) : T[k]? = some (zs_at T k) := by
  simp [zs_at, List.getElem?_eq_getElem h]
/-- a hidden answer fits a possible outcome of each set, but one -/
def zs_fits (T : zs_T) (hh : Nat) (but : Option Nat) : Bool := allB (fun k => decide (but = some k) || decide (0 < (zs_at T k).2.2.1 (zs_fit (zs_at T k) hh))) T.length
def zs_ext (L : Nat) (T : zs_T) (k o : Nat) : Bool := anyB (fun hh => decide (zs_fit (zs_at T k) hh = o) && zs_fits T hh (some k)) (2 ^ L)
/-- coins won at all tries; coins that a hidden answer pays; the first one that pays least -/
def zs_wins (T : zs_T) : Nat := fo (fun k a => fo (fun o a => a + (zs_at T k).2.2.2 o * (zs_at T k).2.2.1 o) (zs_out (zs_at T k)) a) T.length 0
def zs_pays (T : zs_T) (hh : Nat) : Nat := fo (fun k a => a + (zs_at T k).2.2.2 (zs_fit (zs_at T k) hh)) T.length 0
def zs_least (L : Nat) (T : zs_T) : Nat := fo (fun k b => if zs_pays T (k + 1) < zs_pays T b then k + 1 else b) (2 ^ L - 1) 0
/-- the i-th below n of a kind -/
def nth (p : Nat → Bool) (i : Int32) : Nat → Option Nat
  | 0 => none
  | n + 1 => match nth p i n with
    | some k => some k
    | none => if p n && decide (nI (cnt p n) = i) then some n else none
theorem ok_get {L N : Nat} {T : zs_T} (h : zs_ok L N T) {k : Nat} (hk : k < T.length) : (zs_at T k).1 < L ∧ (∀ b, (zs_at T k).2.1 = some b → b < L ∧ b ≠ (zs_at T k).1) ∧ (match (zs_at T k).2.1 with
  | none => (zs_at T k).2.2.1 0 + (zs_at T k).2.2.1 1 = N
  | some _ => (zs_at T k).2.2.1 0 + (zs_at T k).2.2.1 1 + (zs_at T k).2.2.1 2 + (zs_at T k).2.2.1 3 = N) ∧ ∀ o, o < 4 → (zs_at T k).2.2.2 o ≤ 99 := h.2 _ (List.mem_of_getElem? (zs_get hk))
theorem ok_tm {L N : Nat} {T : zs_T} (h : zs_ok L N T) {k : Nat} (hk : k < T.length) {o : Nat} (ho : o < zs_out (zs_at T k)) : (zs_at T k).2.2.1 o ≤ N := by
  have h1 := (ok_get h hk).2.2.1
  generalize zs_at T k = e at *
  obtain ⟨a, b, t, c⟩ := e
  cases b with
  | none =>
    simp only [zs_out] at ho h1 ⊢
    obtain rfl | rfl : o = 0 ∨ o = 1 := by omega
    all_goals omega
  | some b =>
    simp only [zs_out] at ho h1 ⊢
    obtain rfl | rfl | rfl | rfl : o = 0 ∨ o = 1 ∨ o = 2 ∨ o = 3 := by omega
    all_goals omega
