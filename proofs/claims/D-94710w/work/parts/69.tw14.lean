/-! CONTRACTS of the reference: tables copied and kept -/
set_option maxRecDepth 100000
/-- a whole array laid anew -/
def tw_sa (s : tw_S) (j : Nat) (f : Nat → Int32) : tw_S := (s.1, fun i => if i = j then f else s.2.1 i, s.2.2)
theorem sa_eq {s : tw_S} {j : Nat} {f : Nat → Int32} : (tw_sa s j f).2.1 j = f := by simp [tw_sa]
theorem sa_ne {s : tw_S} {j i : Nat} {f : Nat → Int32} (h : i ≠ j) : (tw_sa s j f).2.1 i = s.2.1 i := by simp [tw_sa, h]
theorem sa_id (s : tw_S) (j : Nat) : tw_sa s j (s.2.1 j) = s := by
  unfold tw_sa
  have : (fun i => if i = j then s.2.1 j else s.2.1 i) = s.2.1 := by
    funext i; split
    · rename_i e; rw [e]
    · rfl
  rw [this]
theorem pa_sa {s : tw_S} {j i : Nat} {x : Int32} {f : Nat → Int32} : tw_pa (tw_sa s j f) j i x = tw_sa s j (upd f i x) := by
  unfold tw_pa tw_sa
  congr 2
  funext k
  dsimp only
  split <;> simp_all
theorem pa_is {s : tw_S} {j i : Nat} {x : Int32} : tw_pa s j i x = tw_sa s j (upd (s.2.1 j) i x) := by
  unfold tw_pa tw_sa
  congr 2
  funext k
  split
  · rename_i e; rw [e]
  · rfl
theorem sa_sa {s : tw_S} {j : Nat} {f g : Nat → Int32} : tw_sa (tw_sa s j f) j g = tw_sa s j g := by
  unfold tw_sa
  congr 2
  funext k
  dsimp only
  split <;> simp_all
def cpf (g f : Nat → Int32) (a b m : Nat) : Nat → Int32 := fun k => if b ≤ k ∧ k < b + m then f (a + (k - b)) else g k
section TW14
variable {G : wq_G} {l : Launch} {o : Nat} {ad : Nat → Nat} {h : wq_H} {s : tw_S}
theorem t_copy (ok : tw_ok G o ad) {j0 j2 : Nat} (h0 : j0 ∈ tw_ia) (h2 : j2 ∈ tw_ia) (hne : j0 ≠ j2) {a b m : Nat} (ha : a + m ≤ tw_len j0) (hb : b + m ≤ tw_len j2) : wq_C G l 0 0 0 mX3_copy [.ref (ad j0), .int (nI a), .ref (ad j2), .int (nI b), .int (nI m)] (tw_h G o ad s h) (tw_qv G o ad h fun s' => s' = tw_sa s j2 (cpf (s.2.1 j2) (s.2.1 j0) a b m)) := by
  have hl : tw_len j0 < 2 ^ 31 := by unfold tw_len; split <;> decide
  have hl2 : tw_len j2 < 2 ^ 31 := by unfold tw_len; split <;> decide
  refine wq_C.of pn_X3 (Nat.le_of_ble_eq_true rfl) rfl (vX3_copy_0 ok h0 h2 ?_)
  have key : ∀ n k, k + n = m → tw_T G l o ad h 0 mX3_copy (tw_qv G o ad h fun s' => s' = tw_sa s j2 (cpf (s.2.1 j2) (s.2.1 j0) a b m)) 3 [some (.ref (ad j0)), some (.int (nI a)), some (.ref (ad j2)), some (.int (nI b)), some (.int (nI m)), some (.int (nI k))] [] (tw_sa s j2 (cpf (s.2.1 j2) (s.2.1 j0) a b k)) := by
    intro n
    induction n with
    | zero =>
      intro k hk
      obtain rfl : k = m := by omega
      exact vX3_copy_3 ok h0 h2 ⟨fun _ => rfl, fun c => absurd (Int32.le_refl _) c⟩
    | succ n ih =>
      intro k hk
      refine vX3_copy_3 ok h0 h2 ⟨fun c => ?_, fun _ => tw_ld_n (a + k) (nI_add a k) (by omega) (tw_st_n (b + k) (nI_add b k) (by omega) ?_)⟩
      · rw [nI_leI (by omega) (by omega)] at c
        omega
      · rw [sa_ne hne, pa_sa, nI_1]
        have e : upd (cpf (s.2.1 j2) (s.2.1 j0) a b k) (b + k) (s.2.1 j0 (a + k)) = cpf (s.2.1 j2) (s.2.1 j0) a b (k + 1) := by
          funext i
          simp only [upd, cpf]
          by_cases e : i = b + k
          · subst e
            rw [if_pos rfl, if_pos (by omega), Nat.add_sub_cancel_left]
          · rw [if_neg e]
            by_cases c : b ≤ i ∧ i < b + k
            · rw [if_pos c, if_pos (by omega)]
            · rw [if_neg c, if_neg (by omega)]
        rw [e]
        exact ih (k + 1) (by omega)
  have := key m 0 (by omega)
  have e : cpf (s.2.1 j2) (s.2.1 j0) a b 0 = s.2.1 j2 := by
    funext i
    simp only [cpf]
    rw [if_neg (by omega)]
  rw [e, sa_id] at this
  exact this
theorem t_noCoins (ok : tw_ok G o ad) : wq_C G l 0 0 0 mX3_noCoins [.ref o] (tw_h G o ad s h) (tw_qv G o ad h fun s' => s' = tw_sa s 17 (fun k => if k < 32 then 0 else s.2.1 17 k)) := by
  refine wq_C.of pn_X3 (Nat.le_of_ble_eq_true rfl) rfl (vX3_noCoins_0 ok ?_)
  have key : ∀ n k, k + n = 32 → tw_T G l o ad h 0 mX3_noCoins (tw_qv G o ad h fun s' => s' = tw_sa s 17 (fun k => if k < 32 then 0 else s.2.1 17 k)) 2 [some (.ref o), some (.int (nI k))] [] (tw_sa s 17 (fun i => if i < k then 0 else s.2.1 17 i)) := by
    intro n
    induction n with
    | zero =>
      intro k hk
      obtain rfl : k = 32 := by omega
      exact vX3_noCoins_2 ok ⟨fun _ => rfl, fun c => absurd (by decide) c⟩
    | succ n ih =>
      intro k hk
      refine vX3_noCoins_2 ok ⟨fun c => ?_, fun _ => tw_st_n k rfl (by show _ < 32; omega) ?_⟩
      · rw [nI_lit 32, nI_leI (by omega) (by omega)] at c
        omega
      · rw [pa_sa, nI_1]
        have e : upd (fun i => if i < k then 0 else s.2.1 17 i) k 0 = (fun i => if i < k + 1 then 0 else s.2.1 17 i) := by
          funext i
          simp only [upd]
          by_cases e : i = k
          · rw [if_pos e, if_pos (by omega)]
          · rw [if_neg e]
            by_cases c : i < k
            · rw [if_pos c, if_pos (by omega)]
            · rw [if_neg c, if_neg (by omega)]
        rw [e]
        exact ih (k + 1) (by omega)
  have := key 32 0 (by omega)
  have e : (fun i => if i < 0 then 0 else s.2.1 17 i) = s.2.1 17 := by funext i; rw [if_neg (by omega)]
  rw [e, sa_id] at this
  exact this
end TW14
/-- an act, as five ints; a row of acts with their tables, as it lies in arrays -/
abbrev zs_A : Type := Nat → Int32
def hist (aT aA : Nat → Int32) (q : List (zs_A × zs_T)) : Prop := ∀ (i : Nat) (x : zs_A × zs_T), q[i]? = some x → x.2.length ≤ 8 ∧ ta_tab (fun j => aT (49 * i + j)) x.2 ∧ ∀ j, j < 5 → aA (5 * i + j) = x.1 j
theorem ta_cong {a b : Nat → Int32} {T : zs_T} (h8 : T.length ≤ 8) (h : ∀ j, j < 49 → a j = b j) (ha : ta_tab a T) : ta_tab b T := by
  refine ⟨by rw [← h 0 (by omega)]; exact ha.1, fun k e hk => ?_⟩
  obtain ⟨h1, h2, h3⟩ := ha.2 k e hk
  have hl := (List.getElem?_eq_some_iff.mp hk).1
  refine ⟨by rw [← h (1 + k) (by omega)]; exact h1, by rw [← h (9 + k) (by omega)]; exact h2, fun o ho => ?_⟩
  have := zs_out_le e
  rw [← h (17 + 4 * k + o) (by omega)]
  exact h3 o ho
def pushA (q : List (zs_A × zs_T)) (x : zs_A × zs_T) : List (zs_A × zs_T) := (if q.length = 20 then q.drop 1 else q) ++ [x]
theorem hist_push {aT aA bT bA : Nat → Int32} {q : List (zs_A × zs_T)} {x : zs_A × zs_T} (hh : hist aT aA q) (h8 : x.2.length ≤ 8) (hT : ∀ i j, i < q.length → j < 49 → bT (49 * i + j) = aT (49 * i + j)) (hA : ∀ i j, i < q.length → j < 5 → bA (5 * i + j) = aA (5 * i + j)) (hx : ta_tab (fun j => bT (49 * q.length + j)) x.2) (hxa : ∀ j, j < 5 → bA (5 * q.length + j) = x.1 j) : hist bT bA (q ++ [x]) := by
  intro i y hy
  by_cases c : i < q.length
  · rw [List.getElem?_append_left c] at hy
    obtain ⟨h1, h2, h3⟩ := hh i y hy
    exact ⟨h1, ta_cong h1 (fun j hj => (hT i j c hj).symm) h2, fun j hj => by rw [hA i j c hj]; exact h3 j hj⟩
  · have hl := (List.getElem?_eq_some_iff.mp hy).1
    simp at hl
    obtain rfl : i = q.length := by omega
    simp at hy
    subst hy
    exact ⟨h8, hx, hxa⟩
theorem hist_drop {aT aA bT bA : Nat → Int32} {q : List (zs_A × zs_T)} (hh : hist aT aA q) (hT : ∀ i j, i + 1 < q.length → j < 49 → bT (49 * i + j) = aT (49 * (i + 1) + j)) (hA : ∀ i j, i + 1 < q.length → j < 5 → bA (5 * i + j) = aA (5 * (i + 1) + j)) : hist bT bA (q.drop 1) := by
  intro i y hy
  rw [List.getElem?_drop, Nat.add_comm] at hy
  have hl := (List.getElem?_eq_some_iff.mp hy).1
  obtain ⟨h1, h2, h3⟩ := hh (i + 1) y hy
  exact ⟨h1, ta_cong h1 (fun j hj => (hT i j hl hj).symm) h2, fun j hj => by rw [hA i j hl hj]; exact h3 j hj⟩
section TW14b
variable {G : wq_G} {l : Launch} {o : Nat} {ad : Nat → Nat} {h : wq_H} {s : tw_S}
/-- five ints put into a row of acts -/
def up5 (f : Nat → Int32) (k : Nat) (x : zs_A) : Nat → Int32 := upd (upd (upd (upd (upd f (5 * k) (x 0)) (5 * k + 1) (x 1)) (5 * k + 2) (x 2)) (5 * k + 3) (x 3)) (5 * k + 4) (x 4)
theorem up5_in {f : Nat → Int32} {k : Nat} {x : zs_A} {j : Nat} (hj : j < 5) : up5 f k x (5 * k + j) = x j := by
  unfold up5 upd
  obtain rfl | rfl | rfl | rfl | rfl : j = 0 ∨ j = 1 ∨ j = 2 ∨ j = 3 ∨ j = 4 := by omega
  all_goals simp
theorem up5_out {f : Nat → Int32} {k : Nat} {x : zs_A} {i : Nat} (hi : i < 5 * k ∨ 5 * k + 5 ≤ i) : up5 f k x i = f i := by
  unfold up5 upd
  rw [if_neg (by omega), if_neg (by omega), if_neg (by omega), if_neg (by omega), if_neg (by omega)]
theorem t_keep (ok : tw_ok G o ad) {j0 j1 : Nat} (hj : (j0 = 19 ∧ j1 = 22) ∨ (j0 = 20 ∧ j1 = 23)) (x : zs_A × zs_T) {q : List (zs_A × zs_T)} (hq : q.length ≤ 20) (hh : hist (s.2.1 j0) (s.2.1 j1) q) (h8 : x.2.length ≤ 8) (hx : ta_tab (s.2.1 18) x.2) : wq_C G l 1 0 0 mX3_keep [.ref (ad j0), .ref (ad j1), .int (nI q.length), .ref (ad 18), .int (x.1 0), .int (x.1 1), .int (x.1 2), .int (x.1 3), .int (x.1 4)] (tw_h G o ad s h) (tw_qv G o ad h fun s' => ∃ F A, s' = tw_sa (tw_sa s j0 F) j1 A ∧ hist F A (pushA q x)) := by
  have m0 : j0 ∈ tw_ia := by rcases hj with ⟨rfl, -⟩ | ⟨rfl, -⟩ <;> decide
  have m1 : j1 ∈ tw_ia := by rcases hj with ⟨-, rfl⟩ | ⟨-, rfl⟩ <;> decide
  have m3 : 18 ∈ tw_ia := by decide
  have l0 : tw_len j0 = 980 := by rcases hj with ⟨rfl, -⟩ | ⟨rfl, -⟩ <;> rfl
  have l1 : tw_len j1 = 100 := by rcases hj with ⟨-, rfl⟩ | ⟨-, rfl⟩ <;> rfl
  have n01 : j0 ≠ j1 := by rcases hj with ⟨rfl, rfl⟩ | ⟨rfl, rfl⟩ <;> decide
  have n30 : 18 ≠ j0 := by rcases hj with ⟨rfl, rfl⟩ | ⟨rfl, rfl⟩ <;> decide
  have n31 : 18 ≠ j1 := by rcases hj with ⟨rfl, rfl⟩ | ⟨rfl, rfl⟩ <;> decide
  generalize hQ : (fun s' => ∃ F A, s' = tw_sa (tw_sa s j0 F) j1 A ∧ hist F A (pushA q x)) = K
  -- the end: the table and its act behind so many others
  have fin : ∀ (k : Nat) (s1 : tw_S) (F A : Nat → Int32) (q' : List (zs_A × zs_T)), k < 20 → q'.length = k → s1 = tw_sa (tw_sa s j0 F) j1 A → hist F A q' → pushA q x = q' ++ [x] → tw_cv G l o ad h 1 mX3_copy [.ref (ad 18), .int 0, .ref (ad j0), .int (nI (49 * k)), .int 49] s1 (fun s1 => tw_st s1 j1 (nI (5 * k)) (x.1 0) (fun s2 => tw_st s2 j1 (nI (5 * k) + 1) (x.1 1) (fun s3 => tw_st s3 j1 (nI (5 * k) + 2) (x.1 2) (fun s4 => tw_st s4 j1 (nI (5 * k) + 3) (x.1 3) (fun s5 => tw_st s5 j1 (nI (5 * k) + 4) (x.1 4) K))))) := by
    intro k s1 F A q' hk hl hs hF hp
    have e18 : s1.2.1 18 = s.2.1 18 := by rw [hs, sa_ne n31, sa_ne n30]
    have e0 : s1.2.1 j0 = F := by rw [hs, sa_ne n01, sa_eq]
    refine tw_cv.eq (by decide) (t_copy (a := 0) (b := 49 * k) (m := 49) ok m3 m0 n30 (by decide) (by rw [l0]; omega)) ?_
    refine tw_st_n (5 * k) rfl (by rw [l1]; omega) (tw_st_n (5 * k + 1) (by rw [nI_lit 1, nI_add]) (by rw [l1]; omega) (tw_st_n (5 * k + 2) (by rw [nI_lit 2, nI_add]) (by rw [l1]; omega) (tw_st_n (5 * k + 3) (by rw [nI_lit 3, nI_add]) (by rw [l1]; omega) (tw_st_n (5 * k + 4) (by rw [nI_lit 4, nI_add]) (by rw [l1]; omega) ?_))))
    rw [e0, e18, pa_is (s := tw_sa s1 j0 (cpf F (s.2.1 18) 0 (49 * k) 49)), pa_sa, pa_sa, pa_sa, pa_sa, sa_ne (fun q => n01 q.symm)]
    have eA : s1.2.1 j1 = A := by rw [hs, sa_eq]
    rw [eA]
    subst hQ
    refine ⟨cpf F (s.2.1 18) 0 (49 * k) 49, up5 A k x.1, ?_, ?_⟩
    · rw [hs]
      unfold up5 tw_sa
      congr 2
      funext i
      dsimp only
      split
      · rfl
      · split
        · rfl
        · rfl
    · rw [hp]
      refine hist_push hF h8 (fun i j hi hj => ?_) (fun i j hi hj => ?_) ?_ (fun j hj => ?_)
      · simp only [cpf]; rw [if_neg (by omega)]
      · exact up5_out (by omega)
      · refine ta_cong h8 (fun j hj => ?_) hx
        simp only [cpf]
        rw [hl, if_pos (by omega), Nat.add_sub_cancel_left, Nat.zero_add]
      · rw [hl]; exact up5_in hj
  refine wq_C.of pn_X3 (Nat.le_of_ble_eq_true rfl) rfl (vX3_keep_0 ok m0 m1 m3 ?_)
  rw [nI_lit 20, nI_eq (by omega) (by omega)]
  refine ⟨fun c => ?_, fun c => ?_⟩
  · have := fin q.length s (s.2.1 j0) (s.2.1 j1) q (by omega) rfl (by rw [sa_id, sa_id]) hh (by simp [pushA, c])
    rw [nI_lit 49, nI_lit 5, nI_mul, nI_mul]
    exact this
  · have second : ∀ n k, k + n = 95 → tw_T G l o ad h 1 mX3_keep (tw_qv G o ad h K) 40 [some (.ref (ad j0)), some (.ref (ad j1)), none, some (.ref (ad 18)), some (.int (x.1 0)), some (.int (x.1 1)), some (.int (x.1 2)), some (.int (x.1 3)), some (.int (x.1 4)), some (.int (nI q.length)), some (.int (nI k))] [] (tw_sa (tw_sa s j0 (fun i => if i < 931 then s.2.1 j0 (i + 49) else s.2.1 j0 i)) j1 (fun i => if i < k then s.2.1 j1 (i + 5) else s.2.1 j1 i)) := by
      intro n
      induction n with
      | zero =>
        intro k hk
        obtain rfl : k = 95 := by omega
        refine vX3_keep_40 ok m0 m1 m3 ⟨fun _ => ?_, fun c => absurd (by decide) c⟩
        have e19 : nI q.length + -1 = nI 19 := by rw [c]; rfl
        rw [e19, nI_lit 49, nI_lit 5, nI_mul, nI_mul]
        refine fin 19 _ _ _ (q.drop 1) (by omega) (by simp [c]) rfl (hist_drop hh (fun i j hi hj => ?_) (fun i j hi hj => ?_)) (by simp [pushA, c])
        · rw [if_pos (by omega), show 49 * i + j + 49 = 49 * (i + 1) + j by omega]
        · rw [if_pos (by omega), show 5 * i + j + 5 = 5 * (i + 1) + j by omega]
      | succ n ih =>
        intro k hk
        refine vX3_keep_40 ok m0 m1 m3 ⟨fun c => ?_, fun _ => tw_ld_n (k + 5) (by rw [nI_lit 5, nI_add]) (by rw [l1]; omega) (tw_st_n k rfl (by rw [l1]; omega) ?_)⟩
        · rw [nI_lit 95, nI_leI (by omega) (by omega)] at c
          omega
        · rw [sa_eq, if_neg (by omega), pa_sa, nI_1]
          have e : upd (fun i => if i < k then s.2.1 j1 (i + 5) else s.2.1 j1 i) k (s.2.1 j1 (k + 5)) = (fun i => if i < k + 1 then s.2.1 j1 (i + 5) else s.2.1 j1 i) := by
            funext i
            simp only [upd]
            by_cases e : i = k
            · subst e; rw [if_pos rfl, if_pos (by omega)]
            · rw [if_neg e]
              by_cases c : i < k
              · rw [if_pos c, if_pos (by omega)]
              · rw [if_neg c, if_neg (by omega)]
          rw [e]
          exact ih (k + 1) (by omega)
    have first : ∀ n k, k + n = 931 → tw_T G l o ad h 1 mX3_keep (tw_qv G o ad h K) 12 [some (.ref (ad j0)), some (.ref (ad j1)), none, some (.ref (ad 18)), some (.int (x.1 0)), some (.int (x.1 1)), some (.int (x.1 2)), some (.int (x.1 3)), some (.int (x.1 4)), some (.int (nI q.length)), some (.int (nI k))] [] (tw_sa s j0 (fun i => if i < k then s.2.1 j0 (i + 49) else s.2.1 j0 i)) := by
      intro n
      induction n with
      | zero =>
        intro k hk
        obtain rfl : k = 931 := by omega
        refine vX3_keep_12 ok m0 m1 m3 ⟨fun _ => ?_, fun c => absurd (by decide) c⟩
        have := second 95 0 (by omega)
        have e : (fun i => if i < 0 then s.2.1 j1 (i + 5) else s.2.1 j1 i) = (tw_sa s j0 (fun i => if i < 931 then s.2.1 j0 (i + 49) else s.2.1 j0 i)).2.1 j1 := by
          rw [sa_ne (fun q => n01 q.symm)]
          funext i
          rw [if_neg (by omega)]
        rw [e, sa_id] at this
        exact this
      | succ n ih =>
        intro k hk
        refine vX3_keep_12 ok m0 m1 m3 ⟨fun c => ?_, fun _ => tw_ld_n (k + 49) (by rw [nI_lit 49, nI_add]) (by rw [l0]; omega) (tw_st_n k rfl (by rw [l0]; omega) ?_)⟩
        · rw [nI_lit 931, nI_leI (by omega) (by omega)] at c
          omega
        · rw [sa_eq, if_neg (by omega), pa_sa, nI_1]
          have e : upd (fun i => if i < k then s.2.1 j0 (i + 49) else s.2.1 j0 i) k (s.2.1 j0 (k + 49)) = (fun i => if i < k + 1 then s.2.1 j0 (i + 49) else s.2.1 j0 i) := by
            funext i
            simp only [upd]
            by_cases e : i = k
            · subst e; rw [if_pos rfl, if_pos (by omega)]
            · rw [if_neg e]
              by_cases c : i < k
              · rw [if_pos c, if_pos (by omega)]
              · rw [if_neg c, if_neg (by omega)]
          rw [e]
          exact ih (k + 1) (by omega)
    have := first 931 0 (by omega)
    have e : (fun i => if i < 0 then s.2.1 j0 (i + 49) else s.2.1 j0 i) = s.2.1 j0 := by funext i; rw [if_neg (by omega)]
    rw [e, sa_id] at this
    exact this
end TW14b
