/-! READING, the common value: tokens of a text, lines, a book; or the first fault and its place -/
/-- a token: its sort (0 the end, 1 bad, 2 a word, 3 a number, else the sign), where it stands, where it ends, its letters, its number -/
abbrev rd_K : Type := Nat × Nat × Nat × List Nat × Nat
def rd_run (p : Nat → Bool) (tp : Nat → Nat) (n : Nat) : Nat → Nat → Nat
  | 0, k => k
  | m + 1, k => if k < n ∧ p (tp k) = true then rd_run p tp n m (k + 1) else k
def rd_end (p : Nat → Bool) (tp : Nat → Nat) (n k : Nat) : Nat := rd_run p tp n (n - k) k
theorem rd_end_go {p : Nat → Bool} {tp : Nat → Nat} {n k : Nat} (h1 : k < n) (h2 : p (tp k) = true) : rd_end p tp n k = rd_end p tp n (k + 1) := by
  unfold rd_end
  rw [show n - k = (n - (k + 1)) + 1 by omega]
  simp only [rd_run]
  rw [if_pos ⟨h1, h2⟩]
theorem rd_end_no {p : Nat → Bool} {tp : Nat → Nat} {n k : Nat} (h : ¬ (k < n ∧ p (tp k) = true)) : rd_end p tp n k = k := by
  unfold rd_end
  cases e : n - k with
  | zero => rfl
  | succ m => simp only [rd_run]; rw [if_neg h]
theorem rd_run_ge {p : Nat → Bool} {tp : Nat → Nat} {n : Nat} (m k : Nat) : k ≤ rd_run p tp n m k ∧ (k ≤ n → rd_run p tp n m k ≤ n) := by
  induction m generalizing k with
  | zero => exact ⟨Nat.le_refl _, id⟩
  | succ m ih =>
    simp only [rd_run]
    by_cases c : k < n ∧ p (tp k) = true
    · rw [if_pos c]
      have := ih (k + 1)
      exact ⟨by omega, fun _ => this.2 (by omega)⟩
    · rw [if_neg c]; exact ⟨Nat.le_refl _, id⟩
theorem rd_end_ge {p : Nat → Bool} {tp : Nat → Nat} {n k : Nat} : k ≤ rd_end p tp n k := (rd_run_ge _ _).1
theorem rd_end_le {p : Nat → Bool} {tp : Nat → Nat} {n k : Nat} (h : k ≤ n) : rd_end p tp n k ≤ n := (rd_run_ge _ _).2 h
def isSp (c : Nat) : Bool := decide (c = 32)
def isSm (c : Nat) : Bool := decide (97 ≤ c ∧ c ≤ 122)
def isDg (c : Nat) : Bool := decide (48 ≤ c ∧ c ≤ 57)
/-- so many letters from a place on; the number of so many digits -/
def rd_let (tp : Nat → Nat) (k m : Nat) : List Nat := (List.range m).map (fun j => tp (k + j))
def rd_dig (tp : Nat → Nat) (k : Nat) : Nat → Nat
  | 0 => 0
  | m + 1 => 10 * rd_dig tp k m + (tp (k + m) - 48)
def rd_tok (tp : Nat → Nat) (n k : Nat) : rd_K :=
  if n ≤ k then (0, k, k, [], 0)
  else if isSm (tp k) then ((if 8 < rd_end isSm tp n k - k then 1 else 2), k, rd_end isSm tp n k, rd_let tp k (min 8 (rd_end isSm tp n k - k)), 0)
  else if isDg (tp k) then ((if 3 < rd_end isDg tp n k - k then 1 else 3), k, rd_end isDg tp n k, [], rd_dig tp k (min 3 (rd_end isDg tp n k - k)))
  else ((if tp k = 59 ∨ tp k = 44 ∨ tp k = 45 then tp k else 1), k, k + 1, [], tp k)
def rd_next (tp : Nat → Nat) (n k : Nat) : rd_K := rd_tok tp n (rd_end isSp tp n k)
/-- while a book is read: the token, tries, names of looks, of points, sets, lines, rays, runs -/
abbrev rd_Q : Type := rd_K × Nat × List (List Nat) × List (List Nat) × zs_T × List zs_N × List (Nat → Int) × List (List (Nat × Nat))
abbrev rd_X (α : Type) : Type := Except (Nat × Nat) α
def rd_adv (tp : Nat → Nat) (n : Nat) (q : rd_Q) : rd_Q := (rd_next tp n q.1.2.2.1, q.2)
def rd_err {α : Type} (f : Nat) (q : rd_Q) : rd_X α := .error (f, q.1.2.1)
def w_even : List Nat := [101, 118, 101, 110]
def w_is : List Nat := [105, 115]
def w_law : List Nat := [108, 97, 119]
def w_line : List Nat := [108, 105, 110, 101]
def w_look : List Nat := [108, 111, 111, 107]
def w_odd : List Nat := [111, 100, 100]
def w_of : List Nat := [111, 102]
def w_point : List Nat := [112, 111, 105, 110, 116]
def w_ray : List Nat := [114, 97, 121]
def w_run : List Nat := [114, 117, 110]
def w_set : List Nat := [115, 101, 116]
def w_tells : List Nat := [116, 101, 108, 108, 115]
def rd_isw (q : rd_Q) (w : List Nat) : Bool := decide (q.1.1 = 2) && decide (q.1.2.2.2.1 = w)
def rd_isn (q : rd_Q) : Bool := decide (q.1.1 = 2) && !(rd_isw q w_law || (rd_isw q w_look || (rd_isw q w_point || (rd_isw q w_set || (rd_isw q w_line || (rd_isw q w_ray || rd_isw q w_run))))))
/-- a word that must be there; a number; a comma -/
def rd_ps (tp : Nat → Nat) (n : Nat) (w : List Nat) (q : rd_Q) : rd_X rd_Q := if rd_isw q w then .ok (rd_adv tp n q) else rd_err 1 q
def rd_no (tp : Nat → Nat) (n lo hi : Nat) (q : rd_Q) : rd_X (Nat × rd_Q) := if q.1.1 = 3 then (if lo ≤ q.1.2.2.2.2 ∧ q.1.2.2.2.2 ≤ hi then .ok (q.1.2.2.2.2, rd_adv tp n q) else rd_err 4 q) else rd_err 1 q
def rd_cm (tp : Nat → Nat) (n : Nat) (q : rd_Q) : rd_X rd_Q := if q.1.1 = 44 then .ok (rd_adv tp n q) else rd_err 1 q
/-- the number of a name of a row that isn't in a set; it isn't gone over -/
def rd_nm (look : Bool) (but : Nat) (q : rd_Q) : rd_X Nat := if rd_isn q then (match (if look then q.2.2.1 else q.2.2.2.1).findIdx? (fun w => decide (w = q.1.2.2.2.1)) with
    | none => rd_err 2 q
    | some k => if but.testBit k then rd_err 3 q else .ok k) else rd_err 1 q
def rd_pn (tp : Nat → Nat) (n : Nat) (look : Bool) (but : Nat) (q : rd_Q) : rd_X (Nat × rd_Q) := (rd_nm look but q).bind (fun k => .ok (k, rd_adv tp n q))
def rd_law (tp : Nat → Nat) (n : Nat) (q : rd_Q) : rd_X rd_Q := (rd_ps tp n w_of q).bind (fun q => (rd_no tp n 1 60 q).bind (fun x => .ok (x.2.1, x.1, x.2.2.2)))
/-- a new name -/
def rd_put (look : Bool) (q : rd_Q) : rd_Q := (q.1, q.2.1, (if look then q.2.2.1 ++ [q.1.2.2.2.1] else q.2.2.1), (if look then q.2.2.2.1 else q.2.2.2.1 ++ [q.1.2.2.2.1]), q.2.2.2.2)
def rd_ns (tp : Nat → Nat) (n : Nat) (look : Bool) (most : Nat) : Nat → rd_Q → rd_X rd_Q
  | 0, q => .ok q
  | m + 1, q => if rd_isn q then (if (q.2.2.1 ++ q.2.2.2.1).contains q.1.2.2.2.1 then rd_err 3 q else if (if look then q.2.2.1 else q.2.2.2.1).length = most then rd_err 5 q else
      (if (rd_adv tp n q).1.1 = 44 then rd_ns tp n look most m (rd_adv tp n (rd_adv tp n (rd_put look q))) else .ok (rd_adv tp n (rd_put look q)))) else rd_err 1 q
/-- how often each outcome came -/
def rd_ts (tp : Nat → Nat) (n many of : Nat) : Nat → Nat → Nat → (Nat → Nat) → rd_Q → rd_X ((Nat → Nat) × rd_Q)
  | 0, _, _, t, q => .ok (t, q)
  | m + 1, o, sum, t, q => (if o = 0 then .ok q else rd_cm tp n q).bind (fun q => if q.1.1 = 3 ∧ q.1.2.2.2.2 ≤ 60 ∧ o + 1 = many ∧ sum + q.1.2.2.2.2 ≠ of then rd_err 4 q else (rd_no tp n 0 60 q).bind (fun x => rd_ts tp n many of m (o + 1) (sum + x.1) (fun j => if j = o then x.1 else t j) x.2))
def rd_s2 (tp : Nat → Nat) (n a : Nat) (b : Option Nat) (q : rd_Q) : rd_X rd_Q := (rd_ps tp n w_tells q).bind (fun q => (rd_ts tp n (if b = none then 2 else 4) q.2.1 (if b = none then 2 else 4) 0 0 (fun _ => 0) q).bind (fun x => .ok (x.2.1, x.2.2.1, x.2.2.2.1, x.2.2.2.2.1, x.2.2.2.2.2.1 ++ [(a, b, x.1, fun _ => 0)], x.2.2.2.2.2.2)))
def rd_set (tp : Nat → Nat) (n : Nat) (q : rd_Q) : rd_X rd_Q := if q.2.2.2.2.1.length = 8 then rd_err 5 q else if q.2.1 = 0 then rd_err 6 q else
  (rd_pn tp n true 0 (rd_adv tp n q)).bind (fun x => if x.2.1.1 = 44 then (rd_pn tp n true (2 ^ x.1) (rd_adv tp n x.2)).bind (fun y => rd_s2 tp n x.1 (some y.1) y.2) else rd_s2 tp n x.1 none x.2)
def rd_odd (tp : Nat → Nat) (n : Nat) (q : rd_Q) : rd_X (Nat × rd_Q) := if rd_isw q w_odd then .ok (1, rd_adv tp n q) else (rd_ps tp n w_even q).bind (fun q => .ok (0, q))
def rd_line3 (tp : Nat → Nat) (n : Nat) (q : rd_Q) : rd_X rd_Q := (rd_pn tp n false 0 q).bind (fun x => (rd_cm tp n x.2).bind (fun q => (rd_pn tp n false (2 ^ x.1) q).bind (fun y => (rd_cm tp n y.2).bind (fun q => (rd_pn tp n false (2 ^ x.1 ||| 2 ^ y.1) q).bind (fun z => (rd_ps tp n w_is z.2).bind (fun q => (rd_odd tp n q).bind (fun p => .ok (p.2.1, p.2.2.1, p.2.2.2.1, p.2.2.2.2.1, p.2.2.2.2.2.1, p.2.2.2.2.2.2.1 ++ [(x.1, y.1, z.1, p.1)], p.2.2.2.2.2.2.2))))))))
/-- the sides of a ray -/
def rd_sd (tp : Nat → Nat) (n : Nat) : Nat → Nat → Bool → (Nat → Int) → rd_Q → rd_X ((Nat → Int) × rd_Q)
  | 0, _, _, t, q => .ok (t, q)
  | m + 1, k, any, t, q => (if k = 0 then .ok q else rd_cm tp n q).bind (fun q => (fun q' => if k = 3 ∧ any = false ∧ q'.1.1 = 3 ∧ q'.1.2.2.2.2 = 0 then rd_err 4 q' else (rd_no tp n 0 3 q').bind (fun x => rd_sd tp n m (k + 1) (any || decide (0 < x.1)) (fun j => if j = k then (if q.1.1 = 45 then - (x.1 : Int) else (x.1 : Int)) else t j) x.2)) (if q.1.1 = 45 then rd_adv tp n q else q))
def rd_ray (tp : Nat → Nat) (n : Nat) (q : rd_Q) : rd_X rd_Q := (rd_sd tp n 4 0 false (fun _ => 0) q).bind (fun x => .ok (x.2.1, x.2.2.1, x.2.2.2.1, x.2.2.2.2.1, x.2.2.2.2.2.1, x.2.2.2.2.2.2.1, x.2.2.2.2.2.2.2.1 ++ [x.1], x.2.2.2.2.2.2.2.2))
/-- the steps of a run -/
def rd_st (tp : Nat → Nat) (n : Nat) : Nat → List (Nat × Nat) → rd_Q → rd_X (List (Nat × Nat) × rd_Q)
  | 0, l, q => .ok (l, q)
  | m + 1, l, q => (rd_nm true 0 q).bind (fun k => if l.length = 6 then rd_err 5 q else (rd_no tp n 0 1 (rd_adv tp n q)).bind (fun x => if x.2.1.1 = 44 then rd_st tp n m (l ++ [(k, x.1)]) (rd_adv tp n x.2) else .ok (l ++ [(k, x.1)], x.2)))
def rd_rn (tp : Nat → Nat) (n : Nat) (q : rd_Q) : rd_X rd_Q := (rd_st tp n 7 [] q).bind (fun x => .ok (x.2.1, x.2.2.1, x.2.2.2.1, x.2.2.2.2.1, x.2.2.2.2.2.1, x.2.2.2.2.2.2.1, x.2.2.2.2.2.2.2.1, x.2.2.2.2.2.2.2.2 ++ [x.1]))
/-- a line's first word, that can be there or not -/
def rd_bg (tp : Nat → Nat) (n : Nat) (can : Bool) (f : Nat) (q : rd_Q) : rd_X rd_Q := if can then .ok (rd_adv tp n q) else rd_err f q
def rd_line (tp : Nat → Nat) (n : Nat) (q : rd_Q) : rd_X rd_Q :=
  if rd_isw q w_law then (rd_bg tp n (decide (q.2.1 = 0)) 3 q).bind (rd_law tp n)
  else if rd_isw q w_look then rd_ns tp n true 6 7 (rd_adv tp n q)
  else if rd_isw q w_point then rd_ns tp n false 9 10 (rd_adv tp n q)
  else if rd_isw q w_set then rd_set tp n q
  else if rd_isw q w_line then (rd_bg tp n (decide (q.2.2.2.2.2.1.length < 8)) 5 q).bind (rd_line3 tp n)
  else if rd_isw q w_ray then (rd_bg tp n (decide (q.2.2.2.2.2.2.1.length < 18)) 5 q).bind (rd_ray tp n)
  else if rd_isw q w_run then (rd_bg tp n (decide (q.2.2.2.2.2.2.2.length < 4)) 5 q).bind (rd_rn tp n)
  else rd_err 1 q
def rd_read (tp : Nat → Nat) (n : Nat) : Nat → rd_Q → rd_X rd_Q
  | 0, q => .ok q
  | m + 1, q => (rd_line tp n q).bind (fun q => if q.1.1 = 59 then rd_read tp n m (rd_adv tp n q) else .ok q)
def rd_book (tp : Nat → Nat) (n : Nat) : rd_X rd_Q := (rd_read tp n (n + 1) (rd_next tp n 0, 0, [], [], [], [], [], [])).bind (fun q => if q.1.1 ≠ 0 then rd_err 1 q else if q.2.1 = 0 ∨ q.2.2.1 = [] then rd_err 6 q else .ok q)
/-! where it stands never goes back -/
theorem rd_tok_e {tp : Nat → Nat} {n k : Nat} : k ≤ (rd_tok tp n k).2.2.1 ∧ (k ≤ n → (rd_tok tp n k).2.2.1 ≤ n) ∧ (k < n → k < (rd_tok tp n k).2.2.1) ∧ (rd_tok tp n k).2.1 = k := by
  unfold rd_tok
  by_cases c : n ≤ k
  · rw [if_pos c]; exact ⟨Nat.le_refl _, fun h => h, fun h => by omega, rfl⟩
  · rw [if_neg c]
    by_cases c1 : isSm (tp k) = true
    · rw [if_pos c1]
      have h1 := rd_end_go (p := isSm) (tp := tp) (n := n) (k := k) (by omega) c1
      have h2 := rd_end_ge (p := isSm) (tp := tp) (n := n) (k := k + 1)
      exact ⟨rd_end_ge, fun h => rd_end_le h, fun _ => by show k < rd_end isSm tp n k; omega, rfl⟩
    · rw [if_neg c1]
      by_cases c2 : isDg (tp k) = true
      · rw [if_pos c2]
        have h1 := rd_end_go (p := isDg) (tp := tp) (n := n) (k := k) (by omega) c2
        have h2 := rd_end_ge (p := isDg) (tp := tp) (n := n) (k := k + 1)
        exact ⟨rd_end_ge, fun h => rd_end_le h, fun _ => by show k < rd_end isDg tp n k; omega, rfl⟩
      · rw [if_neg c2]
        exact ⟨Nat.le_succ k, fun _ => by show k + 1 ≤ n; omega, fun _ => Nat.lt_succ_self k, rfl⟩
theorem rd_next_e {tp : Nat → Nat} {n k : Nat} : k ≤ (rd_next tp n k).2.2.1 ∧ (k ≤ n → (rd_next tp n k).2.2.1 ≤ n) := by
  unfold rd_next
  have h1 := rd_end_ge (p := isSp) (tp := tp) (n := n) (k := k)
  have h2 := rd_tok_e (tp := tp) (n := n) (k := rd_end isSp tp n k)
  exact ⟨by omega, fun h => h2.2.1 (rd_end_le h)⟩
theorem rd_next_lt {tp : Nat → Nat} {n k : Nat} (h : (rd_next tp n k).1 ≠ 0) : k < (rd_next tp n k).2.2.1 ∧ (rd_next tp n k).2.2.1 ≤ n := by
  unfold rd_next at *
  have h1 := rd_end_ge (p := isSp) (tp := tp) (n := n) (k := k)
  have h2 := rd_tok_e (tp := tp) (n := n) (k := rd_end isSp tp n k)
  by_cases c : n ≤ rd_end isSp tp n k
  · unfold rd_tok at h
    rw [if_pos c] at h
    exact absurd rfl h
  · exact ⟨by have := h2.2.2.1 (by omega); omega, h2.2.1 (by omega)⟩
/-- it has gone on from q to q', within the text -/
def rd_le (tp : Nat → Nat) (n : Nat) (q q' : rd_Q) : Prop := q.1.2.2.1 ≤ q'.1.2.2.1 ∧ (q.1.2.2.1 ≤ n → q'.1.2.2.1 ≤ n)
theorem rd_le.refl {tp : Nat → Nat} {n : Nat} (q : rd_Q) : rd_le tp n q q := ⟨Nat.le_refl _, id⟩
theorem rd_le.trans {tp : Nat → Nat} {n : Nat} {a b c : rd_Q} (h1 : rd_le tp n a b) (h2 : rd_le tp n b c) : rd_le tp n a c := ⟨Nat.le_trans h1.1 h2.1, fun h => h2.2 (h1.2 h)⟩
theorem rd_le.adv {tp : Nat → Nat} {n : Nat} {q : rd_Q} : rd_le tp n q (rd_adv tp n q) := rd_next_e
theorem ex_bind {α β : Type} {x : rd_X α} {f : α → rd_X β} {b : β} (h : x.bind f = .ok b) : ∃ a, x = .ok a ∧ f a = .ok b := by
  cases x with
  | error e => cases h
  | ok a => exact ⟨a, rfl, h⟩
section RDLE
variable {tp : Nat → Nat} {n : Nat} {q q' : rd_Q}
theorem le_ps {w : List Nat} (h : rd_ps tp n w q = .ok q') : rd_le tp n q q' := by
  unfold rd_ps at h
  split at h
  · cases h; exact .adv
  · cases h
theorem le_cm (h : rd_cm tp n q = .ok q') : rd_le tp n q q' := by
  unfold rd_cm at h
  split at h
  · cases h; exact .adv
  · cases h
theorem le_no {lo hi : Nat} {x : Nat × rd_Q} (h : rd_no tp n lo hi q = .ok x) : rd_le tp n q x.2 := by
  unfold rd_no at h
  split at h
  · split at h
    · cases h; exact .adv
    · cases h
  · cases h
theorem le_pn {look : Bool} {but : Nat} {x : Nat × rd_Q} (h : rd_pn tp n look but q = .ok x) : rd_le tp n q x.2 := by
  obtain ⟨k, h1, h2⟩ := ex_bind h
  cases h2; exact .adv
theorem le_law (h : rd_law tp n q = .ok q') : rd_le tp n q q' := by
  obtain ⟨q1, h1, h2⟩ := ex_bind h
  obtain ⟨x, h3, h4⟩ := ex_bind h2
  cases h4
  exact (le_ps h1).trans (le_no h3)
theorem le_ns {look : Bool} {most m : Nat} (h : rd_ns tp n look most m q = .ok q') : rd_le tp n q q' := by
  induction m generalizing q with
  | zero => cases h; exact .refl _
  | succ m ih =>
    simp only [rd_ns] at h
    generalize hL : (if look = true then q.2.2.1 else q.2.2.2.1).length = L at h
    by_cases c1 : rd_isn q = true
    · rw [if_pos c1] at h
      by_cases c2 : (q.2.2.1 ++ q.2.2.2.1).contains q.1.2.2.2.1 = true
      · rw [if_pos c2] at h; cases h
      · rw [if_neg c2] at h
        by_cases c3 : L = most
        · rw [if_pos c3] at h; cases h
        · rw [if_neg c3] at h
          by_cases c4 : (rd_adv tp n q).1.1 = 44
          · rw [if_pos c4] at h
            have h1 := ih h
            exact (rd_le.adv (q := q)).trans ((rd_le.adv (q := rd_adv tp n (rd_put look q))).trans h1)
          · rw [if_neg c4] at h
            cases h
            exact rd_le.adv (q := q)
    · rw [if_neg c1] at h; cases h
theorem le_ts {many of m o sum : Nat} {t : Nat → Nat} {x : (Nat → Nat) × rd_Q} (h : rd_ts tp n many of m o sum t q = .ok x) : rd_le tp n q x.2 := by
  induction m generalizing o sum t q with
  | zero => cases h; exact .refl _
  | succ m ih =>
    simp only [rd_ts] at h
    obtain ⟨q1, h1, h2⟩ := ex_bind h
    have l1 : rd_le tp n q q1 := by
      split at h1
      · cases h1; exact .refl _
      · exact le_cm h1
    split at h2
    · cases h2
    · obtain ⟨x, h3, h4⟩ := ex_bind h2
      exact l1.trans ((le_no h3).trans (ih h4))
theorem le_s2 {a : Nat} {b : Option Nat} (h : rd_s2 tp n a b q = .ok q') : rd_le tp n q q' := by
  obtain ⟨q1, h1, h2⟩ := ex_bind h
  obtain ⟨x, h3, h4⟩ := ex_bind h2
  cases h4
  exact (le_ps h1).trans (le_ts h3)
theorem le_set (h : rd_set tp n q = .ok q') : rd_le tp n q q' := by
  unfold rd_set at h
  split at h
  · cases h
  · split at h
    · cases h
    · obtain ⟨x, h1, h2⟩ := ex_bind h
      have l1 := (rd_le.adv (q := q)).trans (le_pn h1)
      split at h2
      · obtain ⟨y, h3, h4⟩ := ex_bind h2
        exact l1.trans ((rd_le.adv (q := x.2)).trans ((le_pn h3).trans (le_s2 h4)))
      · exact l1.trans (le_s2 h2)
theorem le_line3 (h : rd_line3 tp n q = .ok q') : rd_le tp n q q' := by
  obtain ⟨x, h1, h⟩ := ex_bind h
  obtain ⟨q1, h2, h⟩ := ex_bind h
  obtain ⟨y, h3, h⟩ := ex_bind h
  obtain ⟨q2, h4, h⟩ := ex_bind h
  obtain ⟨z, h5, h⟩ := ex_bind h
  obtain ⟨q3, h6, h⟩ := ex_bind h
  obtain ⟨p, h7, h⟩ := ex_bind h
  cases h
  have l7 : rd_le tp n q3 p.2 := by
    unfold rd_odd at h7
    split at h7
    · cases h7; exact .adv
    · obtain ⟨q4, h8, h9⟩ := ex_bind h7
      cases h9
      exact le_ps h8
  exact (le_pn h1).trans ((le_cm h2).trans ((le_pn h3).trans ((le_cm h4).trans ((le_pn h5).trans ((le_ps h6).trans l7)))))
theorem le_sd {m k : Nat} {any : Bool} {t : Nat → Int} {x : (Nat → Int) × rd_Q} (h : rd_sd tp n m k any t q = .ok x) : rd_le tp n q x.2 := by
  induction m generalizing k any t q with
  | zero => cases h; exact .refl _
  | succ m ih =>
    simp only [rd_sd] at h
    obtain ⟨q1, h1, h2⟩ := ex_bind h
    have l1 : rd_le tp n q q1 := by
      split at h1
      · cases h1; exact .refl _
      · exact le_cm h1
    have l2 : rd_le tp n q1 (if q1.1.1 = 45 then rd_adv tp n q1 else q1) := by
      split
      · exact .adv
      · exact .refl _
    generalize (if q1.1.1 = 45 then rd_adv tp n q1 else q1) = q2 at h2 l2
    by_cases c1 : k = 3 ∧ any = false ∧ q2.1.1 = 3 ∧ q2.1.2.2.2.2 = 0
    · rw [if_pos c1] at h2; cases h2
    · rw [if_neg c1] at h2
      obtain ⟨x, h3, h4⟩ := ex_bind h2
      exact l1.trans (l2.trans ((le_no h3).trans (ih h4)))
theorem le_ray (h : rd_ray tp n q = .ok q') : rd_le tp n q q' := by
  obtain ⟨x, h1, h2⟩ := ex_bind h
  cases h2
  exact le_sd h1
theorem le_st {m : Nat} {l : List (Nat × Nat)} {x : List (Nat × Nat) × rd_Q} (h : rd_st tp n m l q = .ok x) : rd_le tp n q x.2 := by
  induction m generalizing l q with
  | zero => cases h; exact .refl _
  | succ m ih =>
    simp only [rd_st] at h
    obtain ⟨k, h1, h2⟩ := ex_bind h
    split at h2
    · cases h2
    · obtain ⟨x, h3, h4⟩ := ex_bind h2
      have l1 := (rd_le.adv (q := q)).trans (le_no h3)
      split at h4
      · exact l1.trans ((rd_le.adv (q := x.2)).trans (ih h4))
      · cases h4; exact l1
theorem le_rn (h : rd_rn tp n q = .ok q') : rd_le tp n q q' := by
  obtain ⟨x, h1, h2⟩ := ex_bind h
  cases h2
  exact le_st h1
theorem le_bg {can : Bool} {f : Nat} (h : rd_bg tp n can f q = .ok q') : rd_le tp n q q' := by
  unfold rd_bg at h
  split at h
  · cases h; exact .adv
  · cases h
theorem le_line (h : rd_line tp n q = .ok q') : rd_le tp n q q' := by
  unfold rd_line at h
  split at h
  · obtain ⟨q1, h1, h2⟩ := ex_bind h
    exact (le_bg h1).trans (le_law h2)
  · split at h
    · exact (rd_le.adv (q := q)).trans (le_ns h)
    · split at h
      · exact (rd_le.adv (q := q)).trans (le_ns h)
      · split at h
        · exact le_set h
        · split at h
          · obtain ⟨q1, h1, h2⟩ := ex_bind h
            exact (le_bg h1).trans (le_line3 h2)
          · split at h
            · obtain ⟨q1, h1, h2⟩ := ex_bind h
              exact (le_bg h1).trans (le_ray h2)
            · split at h
              · obtain ⟨q1, h1, h2⟩ := ex_bind h
                exact (le_bg h1).trans (le_rn h2)
              · cases h
end RDLE
