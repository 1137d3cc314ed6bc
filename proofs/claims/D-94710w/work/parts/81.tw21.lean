/-! CONTRACTS of the reference: acts, second -/
set_option maxRecDepth 100000
theorem xx (x b : Nat) : x ^^^ b ^^^ b = x := by rw [Nat.xor_assoc, Nat.xor_self, Nat.xor_zero]
section TW21
variable {G : wq_G} {l : Launch} {o : Nat} {ad : Nat → Nat} {h : wq_H} {s : tw_S} {D : zs_D}
theorem t_fin (ok : tw_ok G o ad) (hD : tr_d s D) {K : zs_K} (hK : D.2.2.2.2.2 = some K) (dk : dok D) {s2 : tw_S} (h1 : ∀ k, k ≠ 0 → k ≠ 11 → s2.1 k = s.1 k) (h11 : s2.1 11 = 0) (h2 : ∀ k ∈ [1, 19, 20, 21, 22, 23], s2.2.1 k = s.2.1 k) (h18 : ∀ j, j < 49 → s2.2.1 18 j = s.2.1 15 j) (h15 : ∀ i, 51 ≤ i → s2.2.1 15 i = s.2.1 15 i) {T : zs_T} (hq : tr_q s2 K.1 K.2.1 T) (a b c d e : Int32) {dd : Nat} (hd : 2 < dd) {Q : Int32 → tw_S → Prop} (hQ : ∀ s', tr_d s' (dk_act D K T (mkA a b c d e)) → Q 1 s') : tw_ci G l o ad h dd mX3_did [.ref o, .int a, .int b, .int c, .int d, .int e] s2 Q := by
  have hk := hD.k hK
  have hok := dk.2.2 K hK
  obtain ⟨k14, kq, kb, k24, k19, k25, k20, k26, k21⟩ := hk
  have t18 : ta_tab (s2.2.1 18) K.2.2.2.1 := ta_cong kq.2.2.1.1 (fun j hj => (h18 j hj).symm) kq.1
  refine tw_ci.use hd (t_did ok (q := K.2.2.2.2.1) (by have := hok.2.2.2.2.2.2.2.1; omega) ((h1 24 (by decide) (by decide)).trans k24) (by rw [h2 19 (by decide), h2 22 (by decide)]; exact k19) kq.2.2.1.1 t18 a b c d e) ?_
  rintro r s' ⟨rfl, F, A, rfl, hF⟩
  refine hQ _ ⟨hD.1.of (h2 1 (by decide)) (h1 2 (by decide) (by decide)) (h1 9 (by decide) (by decide)) (h1 10 (by decide) (by decide)), h11, ?_⟩
  refine ⟨(h1 14 (by decide) (by decide)).trans k14, hq, kb.of h15, rfl, hF, rfl, fun i x hx => by simp at hx, (h1 26 (by decide) (by decide)).trans k26, ?_⟩
  show mk_at (s2.2.1 21) _
  rw [h2 21 (by decide)]
  exact k21
theorem zs_by_le (e : zs_E) (l : Nat) : zs_by e l = 0 ∨ zs_by e l = 1 ∨ (zs_by e l = 2 ∧ zs_out e = 4) := by
  unfold zs_by zs_out
  cases e.2.1 with
  | none => simp; omega
  | some b =>
    have hn : ¬ (some b : Option Nat) = none := by simp
    rw [if_neg hn]
    by_cases c : e.1 = l
    · rw [if_pos c]; exact Or.inr (Or.inr ⟨rfl, rfl⟩)
    · rw [if_neg c]; split
      · exact Or.inr (Or.inl rfl)
      · exact Or.inl rfl
theorem zs_by_out (e : zs_E) (l : Nat) {o : Nat} (ho : o < zs_out e) : o ^^^ zs_by e l < zs_out e := by
  have h1 := zs_by_le e l
  have h2 := zs_out_le e
  have h3 := zs_out_ge e
  have h4 : zs_out e = 2 ∨ zs_out e = 4 := by unfold zs_out; split <;> simp
  have key : ∀ b, b < 3 → ∀ o, o < 4 → (o < 2 → b < 2 → o ^^^ b < 2) ∧ o ^^^ b < 4 := by decide
  have := key (zs_by e l) (by omega) o (by omega)
  rcases h1 with h1 | h1 | h1 <;> rcases h4 with h4 | h4 <;> rw [h4] at ho ⊢ <;> omega
theorem zs_flp_0 {e : zs_E} {l : Nat} (h : zs_by e l = 0) : zs_flp e l = e := by
  unfold zs_flp
  rw [h]
  simp only [Nat.xor_zero]
theorem zs_flp_out (e : zs_E) (l : Nat) : zs_out (zs_flp e l) = zs_out e := rfl
/-- the sum of a set's outcomes, whatever they are -/
theorem zs_ok_flp {L N : Nat} {e : zs_E} {l : Nat} (h : e.1 < L ∧ (∀ b, e.2.1 = some b → b < L ∧ b ≠ e.1) ∧ (match e.2.1 with
  | none => e.2.2.1 0 + e.2.2.1 1 = N
  | some _ => e.2.2.1 0 + e.2.2.1 1 + e.2.2.1 2 + e.2.2.1 3 = N) ∧ ∀ o, o < 4 → e.2.2.2 o ≤ 99) : (zs_flp e l).1 < L ∧ (∀ b, (zs_flp e l).2.1 = some b → b < L ∧ b ≠ (zs_flp e l).1) ∧ (match (zs_flp e l).2.1 with
  | none => (zs_flp e l).2.2.1 0 + (zs_flp e l).2.2.1 1 = N
  | some _ => (zs_flp e l).2.2.1 0 + (zs_flp e l).2.2.1 1 + (zs_flp e l).2.2.1 2 + (zs_flp e l).2.2.1 3 = N) ∧ ∀ o, o < 4 → (zs_flp e l).2.2.2 o ≤ 99 := by
  obtain ⟨h1, h2, h3, h4⟩ := h
  have hb := zs_by_le e l
  have key : ∀ b, b < 3 → ∀ o, o < 4 → o ^^^ b < 4 := by decide
  refine ⟨h1, h2, ?_, fun o ho => h4 _ (key _ (by omega) o ho)⟩
  show match e.2.1 with
    | none => e.2.2.1 (0 ^^^ zs_by e l) + e.2.2.1 (1 ^^^ zs_by e l) = N
    | some _ => e.2.2.1 (0 ^^^ zs_by e l) + e.2.2.1 (1 ^^^ zs_by e l) + e.2.2.1 (2 ^^^ zs_by e l) + e.2.2.1 (3 ^^^ zs_by e l) = N
  cases q : e.2.1 with
  | none =>
    rw [q] at h3
    have hb2 : zs_by e l = 0 ∨ zs_by e l = 1 := by unfold zs_by; rw [q]; simp; omega
    rcases hb2 with hb2 | hb2 <;> rw [hb2] <;> simp only [Nat.xor_zero, Nat.xor_self, Nat.zero_xor] <;> simp only at h3 <;> omega
  | some b =>
    rw [q] at h3
    simp only at h3
    have r : ∀ n, n < 4 → (n ^^^ 1 = if n = 0 then 1 else if n = 1 then 0 else if n = 2 then 3 else 2) ∧ (n ^^^ 2 = if n = 0 then 2 else if n = 1 then 3 else if n = 2 then 0 else 1) := by decide
    rcases hb with hb | hb | hb
    · rw [hb]; simp only [Nat.xor_zero]; exact h3
    · rw [hb, (r 0 (by omega)).1, (r 1 (by omega)).1, (r 2 (by omega)).1, (r 3 (by omega)).1]
      simp
      omega
    · rw [hb.1, (r 0 (by omega)).2, (r 1 (by omega)).2, (r 2 (by omega)).2, (r 3 (by omega)).2]
      simp
      omega
/-- a table, the first k sets of which are changed -/
def mapk (f : zs_E → zs_E) (T : zs_T) (k : Nat) : zs_T := (T.take k).map f ++ T.drop k
theorem mapk_len {f : zs_E → zs_E} {T : zs_T} {k : Nat} : (mapk f T k).length = T.length := by simp [mapk]; omega
theorem mapk_get {f : zs_E → zs_E} {T : zs_T} {k j : Nat} : (mapk f T k)[j]? = if j < k then (T[j]?).map f else T[j]? := by
  unfold mapk
  by_cases c : j < k
  · rw [if_pos c]
    by_cases c2 : j < T.length
    · rw [List.getElem?_append_left (by simp; omega)]
      simp [List.getElem?_take, c]
    · rw [List.getElem?_eq_none (by simp; omega), List.getElem?_eq_none (by omega)]; rfl
  · rw [if_neg c, List.getElem?_append_right (by simp; omega)]
    rw [List.getElem?_drop]
    by_cases c2 : k ≤ T.length
    · congr 1; simp; omega
    · rw [List.getElem?_eq_none (by simp; omega), List.getElem?_eq_none (by omega)]
theorem mapk_at {f : zs_E → zs_E} {T : zs_T} {k j : Nat} (hj : j < T.length) : zs_at (mapk f T k) j = if j < k then f (zs_at T j) else zs_at T j := by
  have h1 := mapk_get (f := f) (T := T) (k := k) (j := j)
  rw [zs_get hj] at h1
  unfold zs_at at *
  rw [h1]
  by_cases c : j < k
  · rw [if_pos c, if_pos c]; rfl
  · rw [if_neg c, if_neg c]; rfl
theorem mapk_all {f : zs_E → zs_E} {T : zs_T} : mapk f T T.length = T.map f := by simp [mapk]
theorem mapk_0 {f : zs_E → zs_E} {T : zs_T} : mapk f T 0 = T := by simp [mapk]
theorem mapk_ok {L N : Nat} {f : zs_E → zs_E} {T : zs_T} {k : Nat} (h : zs_ok L N T) (hf : ∀ e, (e.1 < L ∧ (∀ b, e.2.1 = some b → b < L ∧ b ≠ e.1) ∧ (match e.2.1 with
  | none => e.2.2.1 0 + e.2.2.1 1 = N
  | some _ => e.2.2.1 0 + e.2.2.1 1 + e.2.2.1 2 + e.2.2.1 3 = N) ∧ ∀ o, o < 4 → e.2.2.2 o ≤ 99) → ((f e).1 < L ∧ (∀ b, (f e).2.1 = some b → b < L ∧ b ≠ (f e).1) ∧ (match (f e).2.1 with
  | none => (f e).2.2.1 0 + (f e).2.2.1 1 = N
  | some _ => (f e).2.2.1 0 + (f e).2.2.1 1 + (f e).2.2.1 2 + (f e).2.2.1 3 = N) ∧ ∀ o, o < 4 → (f e).2.2.2 o ≤ 99)) : zs_ok L N (mapk f T k) := by
  refine ⟨by rw [mapk_len]; exact h.1, fun e he => ?_⟩
  unfold mapk at he
  rcases List.mem_append.mp he with q | q
  · obtain ⟨e', h1, rfl⟩ := List.mem_map.mp q
    exact hf e' (h.2 e' (List.mem_of_mem_take h1))
  · exact h.2 e (List.mem_of_mem_drop q)
/-- arrays 15 and 17 hold a table; nothing else is told of them but that what lies behind the table stays -/
def ar_t (s s' : tw_S) (T : zs_T) : Prop := s'.1 = s.1 ∧ (∀ k, k ≠ 15 → k ≠ 17 → s'.2.1 k = s.2.1 k) ∧ (∀ i, 49 ≤ i → s'.2.1 15 i = s.2.1 15 i) ∧ ta_tab (s'.2.1 15) T ∧ ta_coin (s'.2.1 17) T
theorem ar_t.q {s s' : tw_S} {L N : Nat} {T T' : zs_T} (h : tr_q s L N T) (ha : ar_t s s' T') (hok : zs_ok L N T') : tr_q s' L N T' :=
  ⟨ha.2.2.2.1, ha.2.2.2.2, hok, by rw [ha.2.2.1 50 (by omega)]; exact h.2.2.2.1, by rw [ha.2.2.1 49 (by omega)]; exact h.2.2.2.2.1, h.2.2.2.2.2⟩
/-- the entries of one set in the arrays -/
theorem ta_put {a : Nat → Int32} {T T' : zs_T} (hl : T'.length = T.length) (h : ta_tab a T) {a' : Nat → Int32} {k : Nat} (h0 : a' 0 = a 0) (hk : ∀ e, T'[k]? = some e → a' (1 + k) = nI e.1 ∧ a' (9 + k) = ta_sec e.2.1 ∧ ∀ o, o < zs_out e → a' (17 + 4 * k + o) = nI (e.2.2.1 o)) (hn : ∀ j, j ≠ k → T'[j]? = T[j]? ∧ (j < T.length → a' (1 + j) = a (1 + j) ∧ a' (9 + j) = a (9 + j) ∧ ∀ o, o < 4 → a' (17 + 4 * j + o) = a (17 + 4 * j + o))) : ta_tab a' T' := by
  refine ⟨by rw [h0, hl]; exact h.1, fun j e he => ?_⟩
  by_cases c : j = k
  · subst c; exact hk e he
  · obtain ⟨h1, h2⟩ := hn j c
    rw [h1] at he
    obtain ⟨g1, g2, g3⟩ := h2 (List.getElem?_eq_some_iff.mp he).1
    obtain ⟨f1, f2, f3⟩ := h.2 j e he
    refine ⟨g1.trans f1, g2.trans f2, fun o ho => (g3 o (by have := zs_out_le e; omega)).trans (f3 o ho)⟩
theorem tc_put {c : Nat → Int32} {T T' : zs_T} (h : ta_coin c T) {c' : Nat → Int32} {k : Nat} (hk : ∀ e, T'[k]? = some e → ∀ o, o < zs_out e → c' (4 * k + o) = nI (e.2.2.2 o)) (hn : ∀ j, j ≠ k → T'[j]? = T[j]? ∧ (j < T.length → ∀ o, o < 4 → c' (4 * j + o) = c (4 * j + o))) : ta_coin c' T' := by
  intro j e he o ho
  by_cases q : j = k
  · subst q; exact hk e he o ho
  · obtain ⟨h1, h2⟩ := hn j q
    rw [h1] at he
    rw [h2 (List.getElem?_eq_some_iff.mp he).1 o (by have := zs_out_le e; omega)]
    exact h j e he o ho
theorem t_flip (ok : tw_ok G o ad) (x : Int32) (hD : tr_d s D) (dk : dok D) : wq_C G l 4 0 0 mX3_flip [.ref o, .int x] (tw_h G o ad s h) (tw_qi G o ad h fun r s' => r = (dk_flip D x).1 ∧ tr_d s' (dk_flip D x).2) := by
  generalize hQ : (fun (r : Int32) (s' : tw_S) => r = (dk_flip D x).1 ∧ tr_d s' (dk_flip D x).2) = Q
  refine wq_C.of pn_X3 (Nat.le_of_ble_eq_true rfl) rfl (vX3_flip_0 ok (tw_cv.eq (by decide) (t_good ok) ?_))
  have no1 : dk_flip D x = (0, dk_t D 1) → tw_ci G l o ad h 4 mX3_isNot [.ref o, .int 1] (tw_g s) (fun y s' => (y = 0 ∨ y = 1) ∧ Q y s') := by
    intro e
    refine tw_ci.is (by decide) (t_isNot ok 1) ⟨Or.inl rfl, ?_⟩
    subst hQ
    rw [e]
    exact hD.ask (v := 0) (t := 1) ⟨rfl, (tw_g_fr s).trans (tw_fr_pi (by decide)), tw_pi_same⟩
  cases hK : D.2.2.2.2.2 with
  | none =>
    have hb : (tw_g s).1 14 = b2i false := (tw_g_14 s).trans (hD.n hK).1
    refine tw_ci.eq (by decide) (t_isLook (L := 0) (N := 0) (T := []) ok x false hb (fun q => absurd q (by decide))) ?_
    exact ⟨fun c => absurd rfl c, fun _ => no1 (by unfold dk_flip; rw [hK])⟩
  | some K =>
    have hk := hD.k hK
    have hok := dk.2.2 K hK
    have hb : (tw_g s).1 14 = b2i true := (tw_g_14 s).trans hk.1
    have hq : tr_q (tw_g s) K.1 K.2.1 K.2.2.2.1 := hk.2.1
    have h8 := tr_8 hq
    have hL := hok.2.2.1
    refine tw_ci.eq (by decide) (t_isLook ok x true hb (fun _ => hq)) ?_
    rw [Bool.true_and, b2i_0]
    refine ⟨fun c => ?_, fun c => no1 (by unfold dk_flip; rw [hK]; simp only; rw [c]; rfl)⟩
    simp only [Bool.not_eq_false] at c
    have hdk : dk_flip D x = (1, dk_act D K (K.2.2.2.1.map (fun e => zs_flp e x.toNatClampNeg)) (mkA 0 x (-2) (-2) (-2))) := by
      unfold dk_flip; rw [hK]; simp only; rw [if_pos c]
    obtain ⟨i, hi, rfl⟩ := inB_of c
    rw [nI_clamp (by omega)] at hdk
    refine tw_cv.eq (by decide) (t_copy (a := 0) (b := 0) (m := 49) ok mia15 (by decide) (by decide) (by decide) (by decide)) ?_
    generalize hs0 : tw_sa (tw_g s) 18 (cpf ((tw_g s).2.1 18) ((tw_g s).2.1 15) 0 0 49) = s0
    have s0_1 : s0.1 = (tw_g s).1 := by subst hs0; rfl
    have s0_15 : s0.2.1 15 = s.2.1 15 := by subst hs0; exact sa_ne (by decide)
    have s0_17 : s0.2.1 17 = s.2.1 17 := by subst hs0; exact sa_ne (by decide)
    have s0_18 : ∀ j, j < 49 → s0.2.1 18 j = s.2.1 15 j := by
      intro j hj
      subst hs0
      rw [sa_eq]
      simp only [cpf]
      rw [if_pos (by omega)]
      show s.2.1 15 (0 + (j - 0)) = _
      rw [Nat.zero_add, Nat.sub_zero]
    have s0_n : ∀ k, k ≠ 15 → k ≠ 17 → k ≠ 18 → s0.2.1 k = s.2.1 k := by
      intro k _ _ h18; subst hs0; exact sa_ne h18
    have hq0 : tr_q s0 K.1 K.2.1 K.2.2.2.1 := by
      have := hk.2.1
      unfold tr_q at *
      rw [s0_15, s0_17]; exact this
    have fin : ∀ s', ar_t s0 s' (K.2.2.2.1.map (fun e => zs_flp e i)) → tw_ci G l o ad h 4 mX3_did [.ref o, .int 0, .int (nI i), .int (-2), .int (-2), .int (-2)] s' (fun y s' => (y = 0 ∨ y = 1) ∧ Q y s') := by
      intro s' ha
      refine t_fin ok hD hK dk (fun k h0 h11 => ?_) ?_ (fun k hk => ?_) (fun j hj => ?_) (fun j hj => ?_) (ha.q hq0 ?_) 0 (nI i) (-2) (-2) (-2) (by decide) (fun s' hs' => ⟨Or.inr rfl, ?_⟩)
      · rw [ha.1, s0_1]; rw [pi_ne h11, pi_ne h0]
      · rw [ha.1, s0_1]; rfl
      · rw [ha.2.1 k (by rintro rfl; simp at hk) (by rintro rfl; simp at hk)]
        exact s0_n k (by rintro rfl; simp at hk) (by rintro rfl; simp at hk) (by rintro rfl; simp at hk)
      · rw [ha.2.1 18 (by decide) (by decide)]; exact s0_18 j hj
      · rw [ha.2.2.1 j (by omega), s0_15]
      · have := mapk_ok (k := K.2.2.2.1.length) (f := fun e => zs_flp e i) hok.1 (fun e he => zs_ok_flp he)
        rw [mapk_all] at this
        exact this
      · subst hQ
        rw [hdk]
        exact ⟨rfl, hs'⟩
    have key : ∀ n k s', k + n = K.2.2.2.1.length → ar_t s0 s' (mapk (fun e => zs_flp e i) K.2.2.2.1 k) → tw_T G l o ad h 4 mX3_flip (tw_qi G o ad h Q) 35 [some (.ref o), some (.int (nI i)), some (.int (nI k)), none, none, none, none, none, none] [] s' := by
      intro n
      induction n with
      | zero =>
        intro k s' hkn ha
        obtain rfl : k = K.2.2.2.1.length := by omega
        rw [mapk_all] at ha
        refine vX3_flip_35 ok (tw_ld_n 0 rfl (by decide) ?_)
        rw [ha.2.2.2.1.1, List.length_map]
        exact ⟨fun _ => fin s' ha, fun c => absurd (Int32.le_refl _) c⟩
      | succ n ih =>
        intro k s' hkn ha
        have hkl : k < K.2.2.2.1.length := by omega
        have hokk := mapk_ok (k := k) (f := fun e => zs_flp e i) hok.1 (fun e he => zs_ok_flp he)
        have hqk := ha.q hq0 hokk
        have hlen : k < (mapk (fun e => zs_flp e i) K.2.2.2.1 k).length := by rw [mapk_len]; exact hkl
        have eat : zs_at (mapk (fun e => zs_flp e i) K.2.2.2.1 k) k = zs_at K.2.2.2.1 k := by rw [mapk_at hkl, if_neg (by omega)]
        have a1 := tr_at hqk hlen
        rw [eat] at a1
        have osec := tr_sec hqk hlen
        rw [eat] at osec
        have oe := ok_get hok.1 hkl
        have h4 := zs_out_le (zs_at K.2.2.2.1 k)
        have nxt : ∀ s', ar_t s0 s' (mapk (fun e => zs_flp e i) K.2.2.2.1 (k + 1)) → tw_T G l o ad h 4 mX3_flip (tw_qi G o ad h Q) 35 [some (.ref o), some (.int (nI i)), some (.int (nI k + 1)), none, none, none, none, none, none] [] s' := by
          intro s' ha
          rw [nI_1]
          exact ih (k + 1) s' (by omega) ha
        have skip : zs_by (zs_at K.2.2.2.1 k) i = 0 → ar_t s0 s' (mapk (fun e => zs_flp e i) K.2.2.2.1 (k + 1)) := by
          intro hz
          have e : mapk (fun e => zs_flp e i) K.2.2.2.1 (k + 1) = mapk (fun e => zs_flp e i) K.2.2.2.1 k := by
            apply List.ext_getElem?
            intro j
            rw [mapk_get, mapk_get]
            by_cases c : j = k
            · subst c
              rw [if_pos (by omega), if_neg (by omega), zs_get hkl]
              simp only [Option.map_some]
              rw [zs_flp_0 hz]
            · by_cases c2 : j < k
              · rw [if_pos c2, if_pos (by omega)]
              · rw [if_neg c2, if_neg (by omega)]
          rw [e]; exact ha
        -- the outcomes of a set, pair by pair
        have sets : ∀ by', zs_by (zs_at K.2.2.2.1 k) i = by' → by' ≠ 0 → tw_T G l o ad h 4 mX3_flip (tw_qi G o ad h Q) 124 [some (.ref o), some (.int (nI i)), some (.int (nI k)), some (.int (nI by')), some (.int 0), none, none, none, none] [] s' := by
          intro by' hby hb0
          have hb3 : by' < 3 := by have := zs_by_le (zs_at K.2.2.2.1 k) i; omega
          have inner : ∀ m j s'', j + m = zs_out (zs_at K.2.2.2.1 k) → s''.1 = s'.1 → (∀ a, a ≠ 15 → a ≠ 17 → s''.2.1 a = s'.2.1 a) → (∀ p, (p < 17 + 4 * k ∨ 17 + 4 * k + 4 ≤ p) → s''.2.1 15 p = s'.2.1 15 p) → (∀ p, (p < 4 * k ∨ 4 * k + 4 ≤ p) → s''.2.1 17 p = s'.2.1 17 p) → (∀ y, y < zs_out (zs_at K.2.2.2.1 k) → s''.2.1 15 (17 + 4 * k + y) = nI ((zs_at K.2.2.2.1 k).2.2.1 (if y < j ∨ y ^^^ by' < j then y ^^^ by' else y)) ∧ s''.2.1 17 (4 * k + y) = nI ((zs_at K.2.2.2.1 k).2.2.2 (if y < j ∨ y ^^^ by' < j then y ^^^ by' else y))) → tw_T G l o ad h 4 mX3_flip (tw_qi G o ad h Q) 124 [some (.ref o), some (.int (nI i)), some (.int (nI k)), some (.int (nI by')), some (.int (nI j)), none, none, none, none] [] s'' := by
            intro m
            induction m with
            | zero =>
              intro j s'' hj g1 g2 g3 g4 g5
              obtain rfl : j = zs_out (zs_at K.2.2.2.1 k) := by omega
              have e9 : s''.2.1 15 (9 + k) = ta_sec (zs_at K.2.2.2.1 k).2.1 := by rw [g3 _ (by omega)]; exact a1.2.1
              have ha2 : ar_t s0 s'' (mapk (fun e => zs_flp e i) K.2.2.2.1 (k + 1)) := by
                refine ⟨g1.trans ha.1, fun a h1 h2 => (g2 a h1 h2).trans (ha.2.1 a h1 h2), fun p hp => (g3 p (by omega)).trans (ha.2.2.1 p hp), ?_, ?_⟩
                · refine ta_put (T := mapk (fun e => zs_flp e i) K.2.2.2.1 k) (k := k) (by rw [mapk_len, mapk_len]) ha.2.2.2.1 (g3 0 (by omega)) (fun e he => ?_) (fun j hj => ⟨?_, fun hjl => by rw [mapk_len] at hjl; exact ⟨g3 _ (by omega), g3 _ (by omega), fun p hp => g3 _ (by omega)⟩⟩)
                  · rw [mapk_get, if_pos (by omega), zs_get hkl] at he
                    simp only [Option.map_some, Option.some.injEq] at he
                    subst he
                    refine ⟨by rw [g3 _ (by omega)]; exact a1.1, e9, fun p hp => ?_⟩
                    have hp : p < zs_out (zs_at K.2.2.2.1 k) := hp
                    rw [(g5 p hp).1, if_pos (Or.inl hp)]
                    show _ = nI ((zs_at K.2.2.2.1 k).2.2.1 (p ^^^ zs_by (zs_at K.2.2.2.1 k) i))
                    rw [hby]
                  · rw [mapk_get, mapk_get]
                    by_cases c2 : j < k
                    · rw [if_pos c2, if_pos (by omega)]
                    · rw [if_neg c2, if_neg (by omega)]
                · refine tc_put (T := mapk (fun e => zs_flp e i) K.2.2.2.1 k) (k := k) ha.2.2.2.2 (fun e he p hp => ?_) (fun j hj => ⟨?_, fun _ p hp => g4 _ (by omega)⟩)
                  · rw [mapk_get, if_pos (by omega), zs_get hkl] at he
                    simp only [Option.map_some, Option.some.injEq] at he
                    subst he
                    have hp : p < zs_out (zs_at K.2.2.2.1 k) := hp
                    rw [(g5 p hp).2, if_pos (Or.inl hp)]
                    show _ = nI ((zs_at K.2.2.2.1 k).2.2.2 (p ^^^ zs_by (zs_at K.2.2.2.1 k) i))
                    rw [hby]
                  · rw [mapk_get, mapk_get]
                    by_cases c2 : j < k
                    · rw [if_pos c2, if_pos (by omega)]
                    · rw [if_neg c2, if_neg (by omega)]
              have hokk2 := mapk_ok (k := k + 1) (f := fun e => zs_flp e i) hok.1 (fun e he => zs_ok_flp he)
              have hqk2 := ha2.q hq0 hokk2
              have to := t_outcomes (h := h) (l := l) ok hqk2 (k := k) (by rw [mapk_len]; exact hkl)
              rw [mapk_at hkl, if_pos (by omega), zs_flp_out] at to
              exact vX3_flip_124 ok (tw_ci.eq (by decide) to ⟨fun _ => nxt s'' ha2, fun c => absurd (Int32.le_refl _) c⟩)
            | succ m ih2 =>
              intro j s'' hj g1 g2 g3 g4 g5
              have hjo : j < zs_out (zs_at K.2.2.2.1 k) := by omega
              have hpo := zs_by_out (zs_at K.2.2.2.1 k) i hjo
              rw [hby] at hpo
              have e9 : s''.2.1 15 (9 + k) = ta_sec (zs_at K.2.2.2.1 k).2.1 := by rw [g3 _ (by omega)]; exact a1.2.1
              have to : wq_C G l 0 0 0 mX3_outcomes [.ref (ad 15), .int (nI k)] (tw_h G o ad s'' h) (tw_qi G o ad h fun r s' => r = nI (zs_out (zs_at K.2.2.2.1 k)) ∧ s' = s'') := by
                refine wq_C.of pn_X3 (Nat.le_of_ble_eq_true rfl) rfl (vX3_outcomes_0 ok mia15 (tw_ld_n (9 + k) (by rw [nI_lit 9, nI_add]) (by show 9 + k < 346; omega) ?_))
                rw [e9]
                refine ⟨fun c => ⟨?_, rfl⟩, fun c => ⟨?_, rfl⟩⟩
                · unfold zs_out
                  split
                  · rename_i e
                    exact absurd (osec.mpr e) c
                  · rfl
                · rw [zs_out, osec.mp c]
                  rfl
              have hne : j ^^^ by' ≠ j := by
                intro e
                have := congrArg (fun z => z ^^^ j) e
                simp only [Nat.xor_self] at this
                rw [Nat.xor_comm, ← Nat.xor_assoc, Nat.xor_self, Nat.zero_xor] at this
                exact hb0 this
              refine vX3_flip_124 ok (tw_ci.eq (by decide) to ⟨fun c => ?_, fun _ => ?_⟩)
              · rw [nI_leI (by omega) (by omega)] at c
                omega
              · rw [nI_xor, nI_leI (by omega) (by omega)]
                refine ⟨fun c => ?_, fun c => ?_⟩
                · have i1 : (17 : Int32) + (4 * nI k + nI j) = nI (17 + 4 * k + j) := by rw [nI_lit 17, nI_lit 4, nI_mul, nI_add, nI_add, ← Nat.add_assoc]
                  have i2 : (17 : Int32) + (4 * nI k + nI (j ^^^ by')) = nI (17 + 4 * k + (j ^^^ by')) := by rw [nI_lit 17, nI_lit 4, nI_mul, nI_add, nI_add, ← Nat.add_assoc]
                  have i3 : (4 : Int32) * nI k + nI j = nI (4 * k + j) := by rw [nI_lit 4, nI_mul, nI_add]
                  have i4 : (4 : Int32) * nI k + nI (j ^^^ by') = nI (4 * k + (j ^^^ by')) := by rw [nI_lit 4, nI_mul, nI_add]
                  refine tw_ld_n _ i1 (by show _ < 346; omega) (tw_ld_n _ i2 (by show _ < 346; omega) (tw_st_n _ i1 (by show _ < 346; omega) (tw_st_n _ i2 (by show _ < 346; omega) (tw_ld_n _ i3 (by show _ < 32; omega) (tw_ld_n _ i4 (by show _ < 32; omega) (tw_st_n _ i3 (by show _ < 32; omega) (tw_st_n _ i4 (by show _ < 32; omega) ?_)))))))
                  rw [nI_1]
                  have v1 : ∀ y : Nat, y = j → ¬ (y < j ∨ y ^^^ by' < j) := by rintro y rfl; omega
                  have v2 : ¬ (j ^^^ by' < j ∨ j ^^^ by' ^^^ by' < j) := by rw [xx]; omega
                  have w1 := g5 j hjo
                  rw [if_neg (v1 j rfl)] at w1
                  have w2 := g5 (j ^^^ by') hpo
                  rw [if_neg v2] at w2
                  refine ih2 (j + 1) _ (by omega) g1 (fun a h1 h2 => ?_) (fun p hp => ?_) (fun p hp => ?_) (fun y hy => ⟨?_, ?_⟩)
                  · rw [pa_no h2, pa_no h2, pa_no h1, pa_no h1]; exact g2 a h1 h2
                  · rw [pa_no (by decide), pa_no (by decide), pa_ne (by omega), pa_ne (by omega)]; exact g3 p hp
                  · rw [pa_ne (by omega), pa_ne (by omega), pa_no (by decide), pa_no (by decide)]; exact g4 p hp
                  · rw [pa_no (by decide), pa_no (by decide)]
                    by_cases q1 : y = j ^^^ by'
                    · subst q1
                      rw [pa_eq, xx, if_pos (Or.inr (by omega))]
                      exact w1.1
                    · rw [pa_ne (by omega)]
                      by_cases q2 : y = j
                      · subst q2
                        rw [pa_eq, if_pos (Or.inl (by omega))]
                        exact w2.1
                      · rw [pa_ne (by omega), (g5 y hy).1]
                        have q3 : y ^^^ by' ≠ j := fun e => q1 (by rw [← e, xx])
                        by_cases q4 : y < j ∨ y ^^^ by' < j
                        · rw [if_pos q4, if_pos (by omega)]
                        · rw [if_neg q4, if_neg (by omega)]
                  · by_cases q1 : y = j ^^^ by'
                    · subst q1
                      rw [pa_eq, xx, if_pos (Or.inr (by omega))]
                      show (tw_pa (tw_pa s'' 15 _ _) 15 _ _).2.1 17 _ = _
                      rw [pa_no (by decide), pa_no (by decide)]
                      exact w1.2
                    · rw [pa_ne (by omega)]
                      by_cases q2 : y = j
                      · subst q2
                        rw [pa_eq, if_pos (Or.inl (by omega))]
                        show (tw_pa (tw_pa s'' 15 _ _) 15 _ _).2.1 17 _ = _
                        rw [pa_no (by decide), pa_no (by decide)]
                        exact w2.2
                      · rw [pa_ne (by omega), pa_no (by decide), pa_no (by decide), (g5 y hy).2]
                        have q3 : y ^^^ by' ≠ j := fun e => q1 (by rw [← e, xx])
                        by_cases q4 : y < j ∨ y ^^^ by' < j
                        · rw [if_pos q4, if_pos (by omega)]
                        · rw [if_neg q4, if_neg (by omega)]
                · rw [nI_1]
                  refine ih2 (j + 1) s'' (by omega) g1 g2 g3 g4 (fun y hy => ?_)
                  have q0 : (y < j + 1 ∨ y ^^^ by' < j + 1) ↔ (y < j ∨ y ^^^ by' < j) := by
                    constructor
                    · rintro (q | q)
                      · by_cases e : y = j
                        · right; rw [e]; omega
                        · left; omega
                      · by_cases e : y ^^^ by' = j
                        · left; rw [← xx y by', e]; omega
                        · right; omega
                    · omega
                  have w := g5 y hy
                  by_cases q4 : y < j ∨ y ^^^ by' < j
                  · rw [if_pos q4] at w
                    rw [if_pos (q0.mpr q4)]; exact w
                  · rw [if_neg q4] at w
                    rw [if_neg (fun q => q4 (q0.mp q))]; exact w
          refine inner (zs_out (zs_at K.2.2.2.1 k)) 0 s' (by omega) rfl (fun _ _ _ => rfl) (fun _ _ => rfl) (fun _ _ => rfl) (fun y hy => ?_)
          rw [if_neg (by omega)]
          exact ⟨a1.2.2.1 y hy, a1.2.2.2 y hy⟩
        have e1i : nI (zs_at K.2.2.2.1 k).1 = nI i ↔ (zs_at K.2.2.2.1 k).1 = i := nI_eq (by omega) (by omega)
        have i9 : (9 : Int32) + nI k = nI (9 + k) := by rw [nI_lit 9, nI_add]
        have i1 : (1 : Int32) + nI k = nI (1 + k) := by rw [nI_lit 1, nI_add]
        refine vX3_flip_35 ok (tw_ld_n 0 rfl (by decide) ?_)
        rw [ha.2.2.2.1.1, mapk_len]
        refine ⟨fun c => ?_, fun _ => tw_ld_n _ i9 (by show _ < 346; omega) ?_⟩
        · rw [nI_leI (by omega) (by omega)] at c
          omega
        · rw [a1.2.1]
          refine ⟨fun c1 => tw_ld_n _ i1 (by show _ < 346; omega) ?_, fun c1 => tw_ld_n _ i1 (by show _ < 346; omega) ?_⟩
          · have hs : (zs_at K.2.2.2.1 k).2.1 ≠ none := fun q => c1 (osec.mpr q)
            rw [a1.1, e1i]
            refine ⟨fun c2 => tw_ld_n _ i9 (by show _ < 346; omega) ?_, fun c2 => ⟨fun _ => sets 2 ?_ (by decide), fun c => absurd c (by decide)⟩⟩
            · rw [a1.2.1]
              obtain ⟨b, hb⟩ := Option.ne_none_iff_exists'.mp hs
              have hbl := (oe.2.1 b hb).1
              rw [hb]
              have ebi : ta_sec (some b) = nI i ↔ b = i := nI_eq (by omega) (by omega)
              rw [ebi]
              refine ⟨fun c3 => ⟨fun c => absurd rfl c, fun _ => nxt s' (skip ?_)⟩, fun c3 => ⟨fun _ => sets 1 ?_ (by decide), fun c => absurd c (by decide)⟩⟩
              · unfold zs_by; rw [hb]; simp [c2, c3]
              · unfold zs_by; rw [hb]; simp [c2, c3]
            · unfold zs_by; rw [if_neg hs, if_pos c2]
          · have hs := osec.mp c1
            rw [a1.1, e1i]
            refine ⟨fun c2 => ⟨fun c => absurd rfl c, fun _ => nxt s' (skip ?_)⟩, fun c2 => ⟨fun _ => sets 1 ?_ (by decide), fun c => absurd c (by decide)⟩⟩
            · unfold zs_by; rw [if_pos hs, if_neg c2]
            · unfold zs_by; rw [if_pos hs, if_pos c2]
    refine key K.2.2.2.1.length 0 s0 (by omega) ⟨rfl, fun _ _ _ => rfl, fun _ _ => rfl, ?_, ?_⟩
    · rw [mapk_0]; exact hq0.1
    · rw [mapk_0]; exact hq0.2.1
end TW21
