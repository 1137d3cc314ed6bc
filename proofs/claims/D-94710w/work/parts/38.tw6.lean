/-! CONTRACTS of the reference: disturbed, led, extents of a level -/
set_option maxRecDepth 100000
def on1 (w : Option Nat) : Int32 := match w with
  | none => -1
  | some n => nI n
theorem on1_neg {w : Option Nat} (h : ∀ n, w = some n → n < 2 ^ 31) : on1 w < 0 ↔ w = none := by
  cases w with
  | none => simp only [on1, iff_true]; decide
  | some n => simp only [on1, reduceCtorEq, iff_false]; exact nI_pos (h n rfl)
theorem zs_ones_le {L N : Nat} {T : zs_T} (hk : zs_ok L N T) {k : Nat} (h : k < T.length) {l n : Nat} (hn : zs_ones (zs_at T k) l = some n) : n ≤ N := by
  have h1 := (ok_get hk h).2.2.1
  generalize zs_at T k = e at *
  obtain ⟨a, b, t, c⟩ := e
  unfold zs_ones at hn
  cases b with
  | none =>
    simp only [reduceCtorEq, if_false] at hn h1
    split at hn
    · cases hn; omega
    · cases hn
  | some b =>
    simp only at hn h1
    split at hn
    · cases hn; omega
    · split at hn
      · cases hn; omega
      · cases hn
theorem zs_dis_le {L N : Nat} {T : zs_T} (hk : zs_ok L N T) {l : Nat} : ∀ k, k ≤ T.length → ∀ w n, zs_dis T l k = some w → w = some n → n ≤ N := by
  intro k
  induction k with
  | zero => intro _ w n h1 h2; cases h1; cases h2
  | succ k ih =>
    intro h w n h1 h2
    simp only [zs_dis] at h1
    split at h1
    · cases h1
    · rename_i w' e
      split at h1
      · cases h1
        exact ih (by omega) w n e h2
      · rename_i m e2
        split at h1
        · cases h1
          cases h2
          exact zs_ones_le hk (by omega) e2
        · cases h1
/-- how many outcomes that came extend, and how many don't -/
def zs_some (L : Nat) (T : zs_T) (q : Bool) : Nat := fo (fun k a => fo (fun o a => if decide (0 < (zs_at T k).2.2.1 o) && (zs_ext L T k o == q) then a + 1 else a) (zs_out (zs_at T k)) a) T.length 0
section TW6
variable {G : wq_G} {l : Launch} {o : Nat} {ad : Nat → Nat} {h : wq_H} {s : tw_S} {L N : Nat} {T : zs_T}
theorem t_onesOf (ok : tw_ok G o ad) (hq : tr_q s L N T) {k x : Nat} (hk : k < T.length) (hx : x < L) : wq_C G l 0 0 0 mX3_onesOf [.ref o, .int (nI k), .int (nI x)] (tw_h G o ad s h) (tw_qi G o ad h fun r s' => r = on1 (zs_ones (zs_at T k) x) ∧ s' = s) := by
  have h8 := tr_8 hq
  obtain ⟨h1, h2, h4, -⟩ := tr_at hq hk
  have h3 := tr_sec hq hk
  have hok := ok_get hq.2.2.1 hk
  have hL := hq.2.2.2.2.2.1
  have hN := hq.2.2.2.2.2.2
  have i9 : (9 : Int32) + nI k = nI (9 + k) := by rw [nI_lit 9, nI_add]
  have i1 : (1 : Int32) + nI k = nI (1 + k) := by rw [nI_lit 1, nI_add]
  have it : ∀ j : Nat, (17 : Int32) + 4 * nI k + nI j = nI (17 + 4 * k + j) := fun j => by rw [nI_lit 17, nI_lit 4, nI_mul, nI_add, nI_add]
  refine wq_C.of pn_X3 (Nat.le_of_ble_eq_true rfl) rfl (vX3_onesOf_0 ok (tw_ld_n (9 + k) i9 (by show 9 + k < 346; omega) ?_))
  rw [h2, h3]
  generalize zs_at T k = e at *
  obtain ⟨a, b, t, cc⟩ := e
  refine ⟨fun c => tw_ld_n (1 + k) i1 (by show 1 + k < 346; omega) ?_, fun c => tw_ld_n (1 + k) i1 (by show 1 + k < 346; omega) ?_⟩
  · cases b with
    | none => exact absurd rfl c
    | some b =>
      have ha : a < L := hok.1
      have hb : b < L := (hok.2.1 b rfl).1
      rw [h1, nI_eq (by simp only; omega) (by omega)]
      refine ⟨fun c1 => tw_ld_n (9 + k) i9 (by show 9 + k < 346; omega) ?_, fun c1 => tw_ld_n (17 + 4 * k + 2) (it 2) (by show _ < 346; omega) (tw_ld_n (17 + 4 * k + 3) (it 3) (by show _ < 346; omega) ?_)⟩
      · rw [h2]
        show (¬ nI b = nI x → _) ∧ (nI b = nI x → _)
        rw [nI_eq (by omega) (by omega)]
        simp only at c1
        refine ⟨fun c2 => ⟨?_, rfl⟩, fun c2 => tw_ld_n (17 + 4 * k + 1) (it 1) (by show _ < 346; omega) (tw_ld_n (17 + 4 * k + 3) (it 3) (by show _ < 346; omega) ?_)⟩
        · simp [zs_ones, c1, c2, on1]
        · rw [h4 1 (by simp [zs_out]), h4 3 (by simp [zs_out]), nI_add]
          refine ⟨?_, rfl⟩
          simp [zs_ones, c1, c2, on1]
      · rw [h4 2 (by simp [zs_out]), h4 3 (by simp [zs_out]), nI_add]
        simp only at c1
        refine ⟨?_, rfl⟩
        simp [zs_ones, c1, on1]
  · simp only at c
    subst c
    have ha : a < L := hok.1
    rw [h1, nI_eq (by simp only; omega) (by omega)]
    refine ⟨fun c1 => ⟨?_, rfl⟩, fun c1 => tw_ld_n (17 + 4 * k + 1) (it 1) (by show _ < 346; omega) ?_⟩
    · simp only at c1
      simp [zs_ones, c1, on1]
    · rw [h4 1 (by simp [zs_out])]
      simp only at c1
      refine ⟨?_, rfl⟩
      simp [zs_ones, c1, on1]
theorem t_disturbed (ok : tw_ok G o ad) (b : Bool) (hb : s.1 14 = b2i b) (hq : b = true → tr_q s L N T) : wq_C G l 2 0 0 mX3_disturbed [.ref o] (tw_h G o ad s h) (tw_qi G o ad h (tw_e s (if b then (match fst (fun x => decide (zs_dis T x T.length = none)) L with
    | some x => nI x
    | none => -2) else -1) (if b then 0 else 1))) := by
  generalize hQ : tw_qi G o ad h (tw_e s (if b then (match fst (fun x => decide (zs_dis T x T.length = none)) L with
    | some x => nI x
    | none => -2) else -1) (if b then 0 else 1)) = Q
  subst hQ
  refine wq_C.of pn_X3 (Nat.le_of_ble_eq_true rfl) rfl (vX3_disturbed_0 ok (tw_cv.eq (by decide) (t_good ok) ?_))
  rw [tw_g_14, hb, b2i_0]
  refine ⟨fun c => ?_, fun c => ?_⟩
  · simp only [Bool.not_eq_false] at c
    subst c
    have hq' : tr_q (tw_g s) L N T := hq rfl
    have h8 := tr_8 hq'
    have h0 : (tw_g s).2.1 15 0 = nI T.length := hq'.1.1
    have hL := hq'.2.2.2.2.2.1
    have hN := hq'.2.2.2.2.2.2
    simp only [if_true]
    generalize hp : (fun x => decide (zs_dis T x T.length = none)) = p
    have hp' : ∀ x, p x = decide (zs_dis T x T.length = none) := fun x => by rw [← hp]
    have fin : ∀ x, x < L → fst p x = none → p x = true → tw_e s (match fst p L with
      | some x => nI x
      | none => -2) 0 (nI x) (tw_g s) := by
      intro x hx h1 h2
      have e : fst p (x + 1) = some x := by simp [fst, h1, h2]
      have e2 := fst_up e (L - (x + 1))
      rw [show x + 1 + (L - (x + 1)) = L by omega] at e2
      rw [e2]
      exact tw_e_g
    have key : ∀ n x, x + n = L → fst p x = none → tw_T G l o ad h 2 mX3_disturbed (tw_qi G o ad h (tw_e s (match fst p L with
      | some x => nI x
      | none => -2) 0)) 19 [some (.ref o), some (.int (nI x)), none, none, none] [] (tw_g s) := by
      intro n
      induction n with
      | zero =>
        intro x hx hn
        obtain rfl : x = L := by omega
        refine vX3_disturbed_19 ok (tw_ld_n 50 rfl (by decide) ?_)
        rw [hq'.2.2.2.1]
        refine ⟨fun _ => ⟨?_, tw_g_fr s, rfl⟩, fun c => absurd (Int32.le_refl _) c⟩
        rw [hn]
      | succ n ih =>
        intro x hx hn
        have inner : ∀ m k w, k + m = T.length → zs_dis T x k = some w → tw_T G l o ad h 2 mX3_disturbed (tw_qi G o ad h (tw_e s (match fst p L with
          | some x => nI x
          | none => -2) 0)) 34 [some (.ref o), some (.int (nI x)), some (.int (on1 w)), some (.int (nI k)), none] [] (tw_g s) := by
          intro m
          induction m with
          | zero =>
            intro k w hk hw
            obtain rfl : k = T.length := by omega
            refine vX3_disturbed_34 ok (tw_ld_n 0 rfl (by decide) ?_)
            rw [h0]
            refine ⟨fun _ => ?_, fun c => absurd (Int32.le_refl _) c⟩
            rw [nI_1]
            exact ih (x + 1) (by omega) (by simp [fst, hn, hp', hw])
          | succ m ihm =>
            intro k w hk hw
            refine vX3_disturbed_34 ok (tw_ld_n 0 rfl (by decide) ?_)
            rw [h0]
            refine ⟨fun c => ?_, fun _ => tw_ci.eq (by decide) (t_onesOf ok hq' (k := k) (x := x) (by omega) (by omega)) ?_⟩
            · rw [nI_leI (by omega) (by omega)] at c
              omega
            · have hle : ∀ n, zs_ones (zs_at T k) x = some n → n < 2 ^ 31 := fun n e => by have := zs_ones_le hq'.2.2.1 (by omega) e; omega
              have hwl : ∀ n, w = some n → n < 2 ^ 31 := fun n e => by have := zs_dis_le hq'.2.2.1 k (by omega) w n hw e; omega
              rw [on1_neg hle, on1_neg hwl]
              cases ho : zs_ones (zs_at T k) x with
              | none =>
                have go := ihm (k + 1) w (by omega) (by simp [zs_dis, hw, ho])
                rw [← nI_1] at go
                refine ⟨fun _ => ⟨fun _ => go, fun c => absurd rfl c⟩, fun c => absurd rfl c⟩
              | some n =>
                refine ⟨fun c => (by cases c), fun _ => ⟨fun c => ?_, fun c => ?_⟩⟩
                · subst c
                  have go := ihm (k + 1) (some n) (by omega) (by simp [zs_dis, hw, ho])
                  rw [← nI_1] at go
                  exact ⟨fun c => (by cases c), fun _ => go⟩
                · cases w with
                  | none => exact absurd rfl c
                  | some w =>
                    show (nI n = nI w → _) ∧ (¬ nI n = nI w → _)
                    rw [nI_eq (hle n ho) (hwl w rfl)]
                    refine ⟨fun c2 => ?_, fun c2 => ?_⟩
                    · subst c2
                      have go := ihm (k + 1) (some n) (by omega) (by simp [zs_dis, hw, ho])
                      rw [← nI_1] at go
                      exact ⟨fun c => (by cases c), fun _ => go⟩
                    · refine fin x (by omega) hn ?_
                      rw [hp']
                      have e : zs_dis T x (k + 1) = none := by
                        have : ¬ w = n := fun q => c2 q.symm
                        simp [zs_dis, hw, ho, this]
                      have up : ∀ j, zs_dis T x (k + 1 + j) = none := by
                        intro j
                        induction j with
                        | zero => exact e
                        | succ j ihj => show (match zs_dis T x (k + 1 + j) with | none => none | some w => _) = none; rw [ihj]
                      have := up (T.length - (k + 1))
                      rw [show k + 1 + (T.length - (k + 1)) = T.length by omega] at this
                      simp [this]
        refine vX3_disturbed_19 ok (tw_ld_n 50 rfl (by decide) ?_)
        rw [hq'.2.2.2.1]
        refine ⟨fun c => ?_, fun _ => inner T.length 0 none (by omega) rfl⟩
        rw [nI_leI (by omega) (by omega)] at c
        omega
    exact key L 0 (by omega) rfl
  · subst c
    exact tw_ci.is (by decide) (t_no ok 1) tw_e_no
end TW6
