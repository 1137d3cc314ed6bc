/-! CONTRACTS of the reference: asked of the table, second -/
set_option maxRecDepth 100000
def inB (x : Int32) (n : Nat) : Bool := decide (0 ≤ x.toInt ∧ x.toInt < n)
theorem inB_of {x : Int32} {n : Nat} (h : inB x n = true) : ∃ k, k < n ∧ x = nI k := by
  simp only [inB, decide_eq_true_eq] at h
  refine ⟨x.toInt.toNat, by omega, ?_⟩
  rw [nI_iI, show ((x.toInt.toNat : Nat) : Int) = x.toInt by omega, iI_self]
theorem inB_nI {k n : Nat} (hk : k < 2 ^ 31) : inB (nI k) n = decide (k < n) := by
  simp only [inB]
  rw [nI_toInt hk]
  simp
theorem in_range {x : Int32} {n : Nat} (hn : n < 2 ^ 30) : decide ((0 : Int32) ≤ x ∧ x ≤ nI n - 1) = inB x n := by
  have e : nI n - 1 = iI ((n : Int) - 1) := by rw [nI_iI, iI_lit 1, iI_sub]; rfl
  simp only [inB]
  congr 1
  rw [e, Int32.le_iff_toInt_le, Int32.le_iff_toInt_le, iI_toInt (by omega) (by omega), Int32.toInt_zero]
  apply propext
  constructor
  · intro h; omega
  · intro h; omega
/-- what a call that only asks may change: thrown, trouble and what is laid down for the time of a call -/
def tw_fr (s s' : tw_S) : Prop := (∀ k ∈ [2, 9, 10, 14, 24, 25, 26], s'.1 k = s.1 k) ∧ ∀ k ∈ [1, 15, 17, 19, 20, 21, 22, 23], s'.2.1 k = s.2.1 k
theorem tw_fr.refl (s : tw_S) : tw_fr s s := ⟨fun _ _ => rfl, fun _ _ => rfl⟩
theorem tw_fr.trans {a b c : tw_S} (h1 : tw_fr a b) (h2 : tw_fr b c) : tw_fr a c := ⟨fun k hk => (h2.1 k hk).trans (h1.1 k hk), fun k hk => (h2.2 k hk).trans (h1.2 k hk)⟩
theorem tw_fr_pi {s : tw_S} {k : Nat} {x : Int32} (hk : k ∉ [2, 9, 10, 14, 24, 25, 26]) : tw_fr s (tw_pi s k x) := by
  refine ⟨fun j hj => ?_, fun _ _ => rfl⟩
  show (if j = k then x else s.1 j) = s.1 j
  rw [if_neg]
  intro e
  rw [e] at hj
  exact hk hj
abbrev tw_g (s : tw_S) : tw_S := tw_pi (tw_pi s 0 0) 11 0
theorem tw_g_fr (s : tw_S) : tw_fr s (tw_g s) := (tw_fr_pi (by decide)).trans (tw_fr_pi (by decide))
theorem tw_g_14 (s : tw_S) : (tw_g s).1 14 = s.1 14 := (tw_g_fr s).1 14 (by decide)
theorem tw_g_11 (s : tw_S) : (tw_g s).1 11 = 0 := rfl
theorem tw_pi_same {s : tw_S} {k : Nat} {x : Int32} : (tw_pi s k x).1 k = x := by simp [tw_pi]
section TW3
variable {G : wq_G} {l : Launch} {o : Nat} {ad : Nat → Nat} {h : wq_H} {s : tw_S} {L N : Nat} {T : zs_T}
theorem t_good (ok : tw_ok G o ad) : wq_C G l 0 0 0 mX3_good [.ref o] (tw_h G o ad s h) (tw_qv G o ad h fun s' => s' = tw_g s) :=
  wq_C.of pn_X3 (Nat.le_of_ble_eq_true rfl) rfl (vX3_good_0 ok rfl)
theorem t_no (ok : tw_ok G o ad) (x : Int32) : wq_C G l 0 0 0 mX3_no [.ref o, .int x] (tw_h G o ad s h) (tw_qi G o ad h fun r s' => r = -1 ∧ s' = tw_pi s 11 x) :=
  wq_C.of pn_X3 (Nat.le_of_ble_eq_true rfl) rfl (vX3_no_0 ok ⟨rfl, rfl⟩)
theorem t_less (ok : tw_ok G o ad) (x y : Int32) : wq_C G l 0 0 0 mX3_less [.ref o, .int x, .int y] (tw_h G o ad s h) (tw_qi G o ad h fun r s' => r = y ∧ s' = tw_pi s 11 x) :=
  wq_C.of pn_X3 (Nat.le_of_ble_eq_true rfl) rfl (vX3_less_0 ok ⟨rfl, rfl⟩)
theorem t_isNot (ok : tw_ok G o ad) (x : Int32) : wq_C G l 0 0 0 mX3_isNot [.ref o, .int x] (tw_h G o ad s h) (tw_qi G o ad h fun r s' => r = 0 ∧ s' = tw_pi s 11 x) :=
  wq_C.of pn_X3 (Nat.le_of_ble_eq_true rfl) rfl (vX3_isNot_0 ok ⟨rfl, rfl⟩)
/-- a call whose answer and state are known -/
theorem tw_ci.is {d d' : Nat} {M : wq_M} {args : List Value} {v : Int32} {s1 : tw_S} {K : Int32 → tw_S → Prop} (hd : d' < d) (c : wq_C G l d' 0 0 M args (tw_h G o ad s h) (tw_qi G o ad h fun r s' => r = v ∧ s' = s1)) (k : K v s1) : tw_ci G l o ad h d M args s K :=
  tw_ci.use hd c (fun x s' q => by rw [q.1, q.2]; exact k)
/-- the end of a call that asks: its answer, nothing changed but trouble -/
def tw_e (s : tw_S) (v t : Int32) : Int32 → tw_S → Prop := fun r s' => r = v ∧ tw_fr s s' ∧ s'.1 11 = t
theorem tw_e_no {s : tw_S} {x : Int32} : tw_e s (-1) x (-1) (tw_pi (tw_g s) 11 x) := ⟨rfl, (tw_g_fr s).trans (tw_fr_pi (by decide)), tw_pi_same⟩
theorem tw_e_g {s : tw_S} {v : Int32} : tw_e s v 0 v (tw_g s) := ⟨rfl, tw_g_fr s, rfl⟩
theorem t_isSet (ok : tw_ok G o ad) (x : Int32) (b : Bool) (hb : s.1 14 = b2i b) (hq : b = true → tr_q s L N T) : wq_C G l 1 0 0 mX3_isSet [.ref o, .int x] (tw_h G o ad s h) (tw_qi G o ad h fun r s' => r = b2i (b && inB x T.length) ∧ s' = s) := by
  refine wq_C.of pn_X3 (Nat.le_of_ble_eq_true rfl) rfl (vX3_isSet_0 ok ⟨fun c => ?_, fun c => ?_⟩)
  · rw [hb, b2i_0] at c
    rw [c]
    exact ⟨rfl, rfl⟩
  · rw [hb, b2i_0] at c
    simp only [Bool.not_eq_false] at c
    have hq := hq c
    refine tw_ld_n 0 rfl (by decide) ?_
    rw [show s.2.1 15 0 = nI T.length from hq.1.1]
    have h8 := tr_8 hq
    refine tw_ci.eq (by decide) (t_within ok 0 x 0 (nI T.length - 1)) ?_
    rw [in_range (by omega), b2i_0, c]
    refine ⟨fun c2 => ⟨?_, rfl⟩, fun c2 => ⟨?_, rfl⟩⟩
    · rw [c2]; rfl
    · simp only [Bool.not_eq_false] at c2; rw [c2]; rfl
theorem t_isLook (ok : tw_ok G o ad) (x : Int32) (b : Bool) (hb : s.1 14 = b2i b) (hq : b = true → tr_q s L N T) : wq_C G l 1 0 0 mX3_isLook [.ref o, .int x] (tw_h G o ad s h) (tw_qi G o ad h fun r s' => r = b2i (b && inB x L) ∧ s' = s) := by
  refine wq_C.of pn_X3 (Nat.le_of_ble_eq_true rfl) rfl (vX3_isLook_0 ok ⟨fun c => ?_, fun c => ?_⟩)
  · rw [hb, b2i_0] at c
    rw [c]
    exact ⟨rfl, rfl⟩
  · rw [hb, b2i_0] at c
    simp only [Bool.not_eq_false] at c
    have hq := hq c
    have hL := hq.2.2.2.2.2.1
    refine tw_ld_n 50 rfl (by decide) ?_
    rw [show s.2.1 15 50 = nI L from hq.2.2.2.1]
    refine tw_ci.eq (by decide) (t_within ok 0 x 0 (nI L - 1)) ?_
    rw [in_range (by omega), b2i_0, c]
    refine ⟨fun c2 => ⟨?_, rfl⟩, fun c2 => ⟨?_, rfl⟩⟩
    · rw [c2]; rfl
    · simp only [Bool.not_eq_false] at c2; rw [c2]; rfl
/-- whether there is such an outcome of such a set -/
def zs_isO (T : zs_T) (x y : Int32) : Bool := inB x T.length && inB y (zs_out (zs_at T x.toNatClampNeg))
theorem t_isOutcome (ok : tw_ok G o ad) (x y : Int32) (b : Bool) (hb : s.1 14 = b2i b) (hq : b = true → tr_q s L N T) : wq_C G l 2 0 0 mX3_isOutcome [.ref o, .int x, .int y] (tw_h G o ad s h) (tw_qi G o ad h fun r s' => r = b2i (b && zs_isO T x y) ∧ s' = s) := by
  refine wq_C.of pn_X3 (Nat.le_of_ble_eq_true rfl) rfl (vX3_isOutcome_0 ok (tw_ci.eq (by decide) (t_isSet ok x b hb hq) ?_))
  rw [b2i_0]
  refine ⟨fun c => ⟨?_, rfl⟩, fun c => ?_⟩
  · unfold zs_isO
    cases b with
    | false => rfl
    | true => simp only [Bool.true_and] at c ⊢; rw [c]; rfl
  · simp only [Bool.not_eq_false, Bool.and_eq_true] at c
    obtain ⟨rfl, c⟩ := c
    have hq := hq rfl
    have h8 := tr_8 hq
    obtain ⟨k, hk, rfl⟩ := inB_of c
    have ho := zs_out_le (zs_at T k)
    refine tw_ci.eq (by decide) (t_outcomes ok hq hk) (tw_ci.eq (by decide) (t_within ok 0 y 0 _) ?_)
    rw [in_range (by omega), b2i_0]
    unfold zs_isO
    rw [c, nI_clamp (by omega)]
    refine ⟨fun c2 => ⟨?_, rfl⟩, fun c2 => ⟨?_, rfl⟩⟩
    · rw [c2]; rfl
    · simp only [Bool.not_eq_false] at c2; rw [c2]; rfl
theorem nth_none {p : Nat → Bool} {i : Int32} {n : Nat} (h : nth p i (n + 1) = none) : nth p i n = none := by
  simp only [nth] at h
  split at h
  · cases h
  · rename_i e; exact e
theorem nth_lt {p : Nat → Bool} {i : Int32} {n k : Nat} (h : nth p i n = some k) : k < n := by
  induction n with
  | zero => cases h
  | succ n ih =>
    simp only [nth] at h
    split at h
    · rename_i e
      cases h
      have := ih e
      omega
    · split at h
      · cases h; omega
      · cases h
theorem nth_up {p : Nat → Bool} {i : Int32} {n k : Nat} (h : nth p i n = some k) (m : Nat) : nth p i (n + m) = some k := by
  induction m with
  | zero => exact h
  | succ m ih => show (match nth p i (n + m) with | some k => some k | none => _) = some k; rw [ih]
theorem t_fittingAnswer (ok : tw_ok G o ad) (hq : tr_q s L N T) (i : Int32) : wq_C G l 2 0 0 mX3_fittingAnswer [.ref o, .int i] (tw_h G o ad s h) (tw_qi G o ad h fun r s' => r = (match nth (fun hh => zs_fits T hh none) i (2 ^ L) with
    | some k => nI k
    | none => nI (cnt (fun hh => zs_fits T hh none) (2 ^ L)) - 1000) ∧ s' = s) := by
  have hp := pow_64 hq.2.2.2.2.2.1.2
  generalize hP : (fun hh => zs_fits T hh none) = p
  have hP' : ∀ j, zs_fits T j none = p j := fun j => by rw [← hP]
  refine wq_C.of pn_X3 (Nat.le_of_ble_eq_true rfl) rfl (vX3_fittingAnswer_0 ok ?_)
  have key : ∀ n j, j + n = 2 ^ L → nth p i j = none → tw_T G l o ad h 2 mX3_fittingAnswer (tw_qi G o ad h fun r s' => r = (match nth p i (2 ^ L) with
    | some k => nI k
    | none => nI (cnt p (2 ^ L)) - 1000) ∧ s' = s) 4 [some (.ref o), some (.int i), some (.int (nI (cnt p j))), some (.int (nI j))] [] s := by
    intro n
    induction n with
    | zero =>
      intro j hj hn
      obtain rfl : j = 2 ^ L := by omega
      refine vX3_fittingAnswer_4 ok (tw_ci.eq (by decide) (t_hiddenMany ok hq) ⟨fun _ => ⟨?_, rfl⟩, fun c => absurd (Int32.le_refl _) c⟩)
      rw [hn]
    | succ n ih =>
      intro j hj hn
      refine vX3_fittingAnswer_4 ok (tw_ci.eq (by decide) (t_hiddenMany ok hq) ⟨fun c => ?_, fun _ => tw_ci.eq (by decide) (t_fitsAll ok hq (b := none) (hh := j) (by omega) (fun x hx => by cases hx)) ?_⟩)
      · rw [nI_leI (by omega) (by omega)] at c
        omega
      · rw [hP' j, b2i_0]
        refine ⟨fun c => ⟨fun c2 => ?_, fun c2 => ⟨?_, rfl⟩⟩, fun c => ?_⟩
        · simp only [Bool.not_eq_false] at c
          have ih := ih (j + 1) (by omega) (by simp [nth, hn, c2])
          rw [← nI_1] at ih
          have e : cnt p (j + 1) = cnt p j + 1 := by simp [cnt, c]
          rw [e, ← nI_1] at ih
          exact ih
        · simp only [Bool.not_eq_false] at c
          have e : nth p i (j + 1) = some j := by simp [nth, hn, c, c2]
          have e2 := nth_up e n
          rw [show j + 1 + n = 2 ^ L by omega] at e2
          rw [e2]
        · have ih := ih (j + 1) (by omega) (by simp [nth, hn, c])
          rw [← nI_1] at ih
          have e : cnt p (j + 1) = cnt p j := by simp [cnt, c]
          rw [e] at ih
          exact ih
  exact key (2 ^ L) 0 (by omega) rfl
end TW3
