/-! CONTRACTS of the reference: acts, third: a set goes; drop, forget, shift, stake -/
set_option maxRecDepth 100000
/-- the state once the table is copied to be kept -/
def tw_was (s : tw_S) : tw_S := tw_sa (tw_g s) 18 (cpf ((tw_g s).2.1 18) ((tw_g s).2.1 15) 0 0 49)
section TW22
variable {G : wq_G} {l : Launch} {o : Nat} {ad : Nat → Nat} {h : wq_H} {s : tw_S} {D : zs_D}
theorem was_1 : (tw_was s).1 = (tw_g s).1 := rfl
theorem was_n {k : Nat} (hk : k ≠ 18) : (tw_was s).2.1 k = s.2.1 k := sa_ne hk
theorem was_18 {j : Nat} (hj : j < 49) : (tw_was s).2.1 18 j = s.2.1 15 j := by
  unfold tw_was
  rw [sa_eq]
  simp only [cpf]
  rw [if_pos (by omega)]
  show s.2.1 15 (0 + (j - 0)) = _
  rw [Nat.zero_add, Nat.sub_zero]
theorem was_q {L N : Nat} {T : zs_T} (h : tr_q s L N T) : tr_q (tw_was s) L N T := by
  unfold tr_q at *
  rw [was_n (by decide), was_n (by decide)]; exact h
theorem t_was (ok : tw_ok G o ad) : wq_C G l 0 0 0 mX3_copy [.ref (ad 15), .int 0, .ref (ad 18), .int 0, .int 49] (tw_h G o ad (tw_g s) h) (tw_qv G o ad h fun s' => s' = tw_was s) :=
  t_copy (a := 0) (b := 0) (m := 49) ok mia15 (by decide) (by decide) (by decide) (by decide)
theorem t_fin2 (ok : tw_ok G o ad) (hD : tr_d s D) {K : zs_K} (hK : D.2.2.2.2.2 = some K) (dk : dok D) {s2 : tw_S} {T : zs_T} (ha : ar_t (tw_was s) s2 T) (hok : zs_ok K.1 K.2.1 T) (a b c d e : Int32) {dd : Nat} (hd : 2 < dd) {Q : Int32 → tw_S → Prop} (hQ : ∀ s', tr_d s' (dk_act D K T (mkA a b c d e)) → Q 1 s') : tw_ci G l o ad h dd mX3_did [.ref o, .int a, .int b, .int c, .int d, .int e] s2 Q := by
  refine t_fin ok hD hK dk (fun k h0 h11 => ?_) ?_ (fun k hk => ?_) (fun j hj => ?_) (fun j hj => ?_) (ha.q (was_q (hD.k hK).2.1) hok) a b c d e hd hQ
  · rw [ha.1, was_1, pi_ne h11, pi_ne h0]
  · rw [ha.1]; rfl
  · rw [ha.2.1 k (by rintro rfl; simp at hk) (by rintro rfl; simp at hk)]
    exact was_n (by rintro rfl; simp at hk)
  · rw [ha.2.1 18 (by decide) (by decide)]; exact was_18 hj
  · rw [ha.2.2.1 j (by omega)]; rw [was_n (by decide)]
theorem t_goesAway (ok : tw_ok G o ad) {T : zs_T} (h8 : T.length ≤ 8) (ht : ta_tab (s.2.1 15) T) (hc : ta_coin (s.2.1 17) T) {k : Nat} (hk : k < T.length) : wq_C G l 0 0 0 mX3_goesAway [.ref o, .int (nI k)] (tw_h G o ad s h) (tw_qv G o ad h fun s' => ar_t s s' (T.eraseIdx k)) := by
  generalize hQ : (fun s' => ar_t s s' (T.eraseIdx k)) = Q
  refine wq_C.of pn_X3 (Nat.le_of_ble_eq_true rfl) rfl (vX3_goesAway_0 ok ?_)
  have i17 : ∀ j p : Nat, (17 : Int32) + 4 * nI j + nI p = nI (17 + 4 * j + p) := fun j p => by rw [nI_lit 17, nI_lit 4, nI_mul, nI_add, nI_add]
  have i4 : ∀ j p : Nat, (4 : Int32) * nI j + nI p = nI (4 * j + p) := fun j p => by rw [nI_lit 4, nI_mul, nI_add]
  -- the end: the last set's places
  have last : ∀ m p s', p + m = 4 → ar_t s s' (T.eraseIdx k) → tw_T G l o ad h 0 mX3_goesAway (tw_qv G o ad h Q) 159 [some (.ref o), none, some (.int (nI (T.length - 1))), some (.int (nI p))] [] s' := by
    intro m
    induction m with
    | zero =>
      intro p s' hp ha
      obtain rfl : p = 4 := by omega
      exact vX3_goesAway_159 ok ⟨fun _ => by subst hQ; exact ha, fun c => absurd (by decide) c⟩
    | succ m ih =>
      intro p s' hp ha
      refine vX3_goesAway_159 ok ⟨fun c => ?_, fun _ => tw_st_n _ (i17 _ p) (by show _ < 346; omega) (tw_st_n _ (i4 _ p) (by show _ < 32; omega) ?_)⟩
      · rw [nI_lit 4, nI_leI (by omega) (by omega)] at c
        omega
      · rw [nI_1]
        refine ih (p + 1) _ (by omega) ⟨ha.1, fun a h1 h2 => ?_, fun i hi => ?_, ⟨?_, fun j e he => ?_⟩, fun j e he x hx => ?_⟩
        · rw [pa_no h2, pa_no h1]; exact ha.2.1 a h1 h2
        · rw [pa_no (by decide), pa_ne (by omega)]; exact ha.2.2.1 i hi
        · rw [pa_no (by decide), pa_ne (by omega)]; exact ha.2.2.2.1.1
        · have hj := (List.getElem?_eq_some_iff.mp he).1
          rw [List.length_eraseIdx_of_lt hk] at hj
          have := zs_out_le e
          obtain ⟨f1, f2, f3⟩ := ha.2.2.2.1.2 j e he
          rw [pa_no (by decide)]
          exact ⟨by rw [pa_ne (by omega)]; exact f1, by rw [pa_ne (by omega)]; exact f2, fun x hx => by rw [pa_ne (by omega)]; exact f3 x hx⟩
        · have hj := (List.getElem?_eq_some_iff.mp he).1
          rw [List.length_eraseIdx_of_lt hk] at hj
          have := zs_out_le e
          rw [pa_ne (by omega), pa_no (by decide)]
          exact ha.2.2.2.2 j e he x hx
  have go : ∀ n j s', j + n + 1 = T.length → k ≤ j → s'.1 = s.1 → (∀ a, a ≠ 15 → a ≠ 17 → s'.2.1 a = s.2.1 a) → (∀ p, 49 ≤ p ∨ p = 0 → s'.2.1 15 p = s.2.1 15 p) → (∀ i, i < 8 → s'.2.1 15 (1 + i) = s.2.1 15 (1 + (if k ≤ i ∧ i < j then i + 1 else i)) ∧ s'.2.1 15 (9 + i) = s.2.1 15 (9 + (if k ≤ i ∧ i < j then i + 1 else i)) ∧ ∀ p, p < 4 → s'.2.1 15 (17 + 4 * i + p) = s.2.1 15 (17 + 4 * (if k ≤ i ∧ i < j then i + 1 else i) + p) ∧ s'.2.1 17 (4 * i + p) = s.2.1 17 (4 * (if k ≤ i ∧ i < j then i + 1 else i) + p)) → tw_T G l o ad h 0 mX3_goesAway (tw_qv G o ad h Q) 2 [some (.ref o), none, some (.int (nI j)), none] [] s' := by
    intro n
    induction n with
    | zero =>
      intro j s' hj hkj g1 g2 g3 g4
      have e0 : s'.2.1 15 0 = nI T.length := (g3 0 (Or.inr rfl)).trans ht.1
      refine vX3_goesAway_2 ok (tw_ld_n 0 rfl (by decide) ?_)
      rw [e0, nI_1]
      refine ⟨fun _ => tw_ld_n 0 rfl (by decide) (tw_st_n 0 rfl (by decide) (tw_ld_n 0 rfl (by decide) ?_)), fun c => ?_⟩
      · rw [e0, pa_eq, nI_sub1 (by omega)]
        have i1 : (1 : Int32) + nI (T.length - 1) = nI (1 + (T.length - 1)) := by rw [nI_lit 1, nI_add]
        have i9 : (9 : Int32) + nI (T.length - 1) = nI (9 + (T.length - 1)) := by rw [nI_lit 9, nI_add]
        refine tw_st_n _ i1 (by show _ < 346; omega) (tw_st_n _ i9 (by show _ < 346; omega) ?_)
        refine last 4 0 _ (by omega) ⟨g1, fun a h1 h2 => ?_, fun i hi => ?_, ⟨?_, fun i e he => ?_⟩, fun i e he x hx => ?_⟩
        · rw [pa_no h1, pa_no h1, pa_no h1]; exact g2 a h1 h2
        · rw [pa_ne (by omega), pa_ne (by omega), pa_ne (by omega)]; exact g3 i (Or.inl hi)
        · rw [pa_ne (by omega), pa_ne (by omega), pa_eq, List.length_eraseIdx_of_lt hk]
        · have hi := (List.getElem?_eq_some_iff.mp he).1
          rw [List.length_eraseIdx_of_lt hk] at hi
          rw [List.getElem?_eraseIdx] at he
          have := zs_out_le e
          obtain ⟨f1, f2, f3⟩ := g4 i (by omega)
          have cond : (if k ≤ i ∧ i < j then i + 1 else i) = if i < k then i else i + 1 := by
            by_cases c : i < k
            · rw [if_neg (by omega), if_pos c]
            · rw [if_pos (by omega), if_neg c]
          rw [cond] at f1 f2 f3
          have he2 : T[if i < k then i else i + 1]? = some e := by
            by_cases c : i < k
            · rw [if_pos c] at he ⊢; exact he
            · rw [if_neg c] at he ⊢; exact he
          obtain ⟨t1, t2, t3⟩ := ht.2 _ e he2
          refine ⟨?_, ?_, fun x hx => ?_⟩
          · rw [pa_ne (by omega), pa_ne (by omega), pa_ne (by omega)]; exact f1.trans t1
          · rw [pa_ne (by omega), pa_ne (by omega), pa_ne (by omega)]; exact f2.trans t2
          · rw [pa_ne (by omega), pa_ne (by omega), pa_ne (by omega)]; exact (f3 x (by omega)).1.trans (t3 x hx)
        · have hi := (List.getElem?_eq_some_iff.mp he).1
          rw [List.length_eraseIdx_of_lt hk] at hi
          rw [List.getElem?_eraseIdx] at he
          have := zs_out_le e
          obtain ⟨f1, f2, f3⟩ := g4 i (by omega)
          have cond : (if k ≤ i ∧ i < j then i + 1 else i) = if i < k then i else i + 1 := by
            by_cases c : i < k
            · rw [if_neg (by omega), if_pos c]
            · rw [if_pos (by omega), if_neg c]
          rw [cond] at f3
          have he2 : T[if i < k then i else i + 1]? = some e := by
            by_cases c : i < k
            · rw [if_pos c] at he ⊢; exact he
            · rw [if_neg c] at he ⊢; exact he
          rw [pa_no (by decide), pa_no (by decide), pa_no (by decide)]
          exact (f3 x (by omega)).2.trans (hc _ e he2 x hx)
      · rw [nI_leI (by omega) (by omega)] at c
        omega
    | succ n ih =>
      intro j s' hj hkj g1 g2 g3 g4
      have e0 : s'.2.1 15 0 = nI T.length := (g3 0 (Or.inr rfl)).trans ht.1
      have i1 : (1 : Int32) + nI j = nI (1 + j) := by rw [nI_lit 1, nI_add]
      have i9 : (9 : Int32) + nI j = nI (9 + j) := by rw [nI_lit 9, nI_add]
      refine vX3_goesAway_2 ok (tw_ld_n 0 rfl (by decide) ?_)
      rw [e0, nI_1]
      refine ⟨fun c => ?_, fun _ => tw_ld_n (1 + (j + 1)) (by rw [i1, nI_1]; rfl) (by show _ < 346; omega) (tw_st_n _ i1 (by show _ < 346; omega) (tw_ld_n (9 + (j + 1)) (by rw [i9, nI_1]; rfl) (by show _ < 346; omega) (tw_st_n _ i9 (by show _ < 346; omega) ?_)))⟩
      · rw [nI_leI (by omega) (by omega)] at c
        omega
      · have inner : ∀ m q s', q + m = 4 → s'.1 = s.1 → (∀ a, a ≠ 15 → a ≠ 17 → s'.2.1 a = s.2.1 a) → (∀ p, 49 ≤ p ∨ p = 0 → s'.2.1 15 p = s.2.1 15 p) → (∀ i, i < 8 → s'.2.1 15 (1 + i) = s.2.1 15 (1 + (if k ≤ i ∧ i < j + 1 then i + 1 else i)) ∧ s'.2.1 15 (9 + i) = s.2.1 15 (9 + (if k ≤ i ∧ i < j + 1 then i + 1 else i)) ∧ ∀ p, p < 4 → s'.2.1 15 (17 + 4 * i + p) = s.2.1 15 (17 + 4 * (if k ≤ i ∧ (i < j ∨ i = j ∧ p < q) then i + 1 else i) + p) ∧ s'.2.1 17 (4 * i + p) = s.2.1 17 (4 * (if k ≤ i ∧ (i < j ∨ i = j ∧ p < q) then i + 1 else i) + p)) → tw_T G l o ad h 0 mX3_goesAway (tw_qv G o ad h Q) 54 [some (.ref o), none, some (.int (nI j)), some (.int (nI q))] [] s' := by
          intro m
          induction m with
          | zero =>
            intro q s' hq g1 g2 g3 g4
            obtain rfl : q = 4 := by omega
            refine vX3_goesAway_54 ok ⟨fun _ => ?_, fun c => absurd (by decide) c⟩
            rw [nI_1]
            refine ih (j + 1) s' (by omega) (by omega) g1 g2 g3 (fun i hi => ⟨(g4 i hi).1, (g4 i hi).2.1, fun p hp => ?_⟩)
            have := (g4 i hi).2.2 p hp
            by_cases c : k ≤ i ∧ i < j + 1
            · rw [if_pos c]
              rw [if_pos (by omega)] at this
              exact this
            · rw [if_neg c]
              rw [if_neg (by omega)] at this
              exact this
          | succ m ih2 =>
            intro q s' hq g1 g2 g3 g4
            have j17 : (17 : Int32) + 4 * nI j + 4 + nI q = nI (17 + 4 * (j + 1) + q) := by rw [nI_lit 17, nI_lit 4, nI_mul, nI_add, nI_add, nI_add]; congr 1
            have j4 : (4 : Int32) * nI j + 4 + nI q = nI (4 * (j + 1) + q) := by rw [nI_lit 4, nI_mul, nI_add, nI_add]; congr 1
            refine vX3_goesAway_54 ok ⟨fun c => ?_, fun _ => tw_ld_n _ j17 (by show _ < 346; omega) (tw_st_n _ (i17 j q) (by show _ < 346; omega) (tw_ld_n _ j4 (by show _ < 32; omega) (tw_st_n _ (i4 j q) (by show _ < 32; omega) ?_)))⟩
            · rw [nI_lit 4, nI_leI (by omega) (by omega)] at c
              omega
            · rw [nI_1]
              have w := (g4 (j + 1) (by omega)).2.2 q (by omega)
              rw [if_neg (by omega)] at w
              refine ih2 (q + 1) _ (by omega) g1 (fun a h1 h2 => ?_) (fun p hp => ?_) (fun i hi => ⟨?_, ?_, fun p hp => ⟨?_, ?_⟩⟩)
              · rw [pa_no h2, pa_no h1]; exact g2 a h1 h2
              · rw [pa_no (by decide), pa_ne (by omega)]; exact g3 p hp
              · rw [pa_no (by decide), pa_ne (by omega)]; exact (g4 i hi).1
              · rw [pa_no (by decide), pa_ne (by omega)]; exact (g4 i hi).2.1
              · rw [pa_no (by decide)]
                by_cases c : i = j ∧ p = q
                · obtain ⟨rfl, rfl⟩ := c
                  rw [pa_eq, if_pos (by omega)]
                  exact w.1
                · rw [pa_ne (by omega), ((g4 i hi).2.2 p hp).1]
                  by_cases c2 : k ≤ i ∧ (i < j ∨ i = j ∧ p < q)
                  · rw [if_pos c2, if_pos (by omega)]
                  · rw [if_neg c2, if_neg (by omega)]
              · by_cases c : i = j ∧ p = q
                · obtain ⟨rfl, rfl⟩ := c
                  rw [pa_eq, if_pos (by omega), pa_no (by decide)]
                  exact w.2
                · rw [pa_ne (by omega), pa_no (by decide), ((g4 i hi).2.2 p hp).2]
                  by_cases c2 : k ≤ i ∧ (i < j ∨ i = j ∧ p < q)
                  · rw [if_pos c2, if_pos (by omega)]
                  · rw [if_neg c2, if_neg (by omega)]
        have w := g4 (j + 1) (by omega)
        rw [if_neg (by omega)] at w
        refine inner 4 0 _ (by omega) g1 (fun a h1 h2 => ?_) (fun p hp => ?_) (fun i hi => ⟨?_, ?_, fun p hp => ⟨?_, ?_⟩⟩)
        · rw [pa_no h1, pa_no h1]; exact g2 a h1 h2
        · rw [pa_ne (by omega), pa_ne (by omega)]; exact g3 p hp
        · rw [pa_ne (by omega)]
          by_cases c : i = j
          · subst c
            rw [pa_eq, if_pos (by omega)]; exact w.1
          · rw [pa_ne (by omega), (g4 i hi).1]
            by_cases c2 : k ≤ i ∧ i < j
            · rw [if_pos c2, if_pos (by omega)]
            · rw [if_neg c2, if_neg (by omega)]
        · by_cases c : i = j
          · subst c
            rw [pa_eq, if_pos (by omega), pa_ne (by omega)]; exact w.2.1
          · rw [pa_ne (by omega), pa_ne (by omega), (g4 i hi).2.1]
            by_cases c2 : k ≤ i ∧ i < j
            · rw [if_pos c2, if_pos (by omega)]
            · rw [if_neg c2, if_neg (by omega)]
        · rw [pa_ne (by omega), pa_ne (by omega), ((g4 i hi).2.2 p hp).1]
          by_cases c2 : k ≤ i ∧ i < j
          · rw [if_pos c2, if_pos (by omega)]
          · rw [if_neg c2, if_neg (by omega)]
        · rw [pa_no (by decide), pa_no (by decide), ((g4 i hi).2.2 p hp).2]
          by_cases c2 : k ≤ i ∧ i < j
          · rw [if_pos c2, if_pos (by omega)]
          · rw [if_neg c2, if_neg (by omega)]
  refine go (T.length - 1 - k) k s (by omega) (Nat.le_refl k) rfl (fun _ _ _ => rfl) (fun _ _ => rfl) (fun i hi => ?_)
  rw [if_neg (by omega)]
  exact ⟨rfl, rfl, fun p _ => ⟨rfl, rfl⟩⟩
theorem zs_ok_erase {L N : Nat} {T : zs_T} (h : zs_ok L N T) (k : Nat) : zs_ok L N (T.eraseIdx k) :=
  ⟨Nat.le_trans (List.length_eraseIdx_le _ _) h.1, fun e he => h.2 e (List.mem_of_mem_eraseIdx he)⟩
theorem t_drop (ok : tw_ok G o ad) (x : Int32) (hD : tr_d s D) (dk : dok D) : wq_C G l 4 0 0 mX3_drop [.ref o, .int x] (tw_h G o ad s h) (tw_qi G o ad h fun r s' => r = (dk_drop D x).1 ∧ tr_d s' (dk_drop D x).2) := by
  generalize hQ : (fun (r : Int32) (s' : tw_S) => r = (dk_drop D x).1 ∧ tr_d s' (dk_drop D x).2) = Q
  refine wq_C.of pn_X3 (Nat.le_of_ble_eq_true rfl) rfl (vX3_drop_0 ok (tw_cv.eq (by decide) (t_good ok) ?_))
  have no1 : dk_drop D x = (0, dk_t D 1) → tw_ci G l o ad h 4 mX3_isNot [.ref o, .int 1] (tw_g s) (fun y s' => (y = 0 ∨ y = 1) ∧ Q y s') := by
    intro e
    refine tw_ci.is (by decide) (t_isNot ok 1) ⟨Or.inl rfl, ?_⟩
    subst hQ
    rw [e]
    exact hD.ask (v := 0) (t := 1) ⟨rfl, (tw_g_fr s).trans (tw_fr_pi (by decide)), tw_pi_same⟩
  cases hK : D.2.2.2.2.2 with
  | none =>
    have hb : (tw_g s).1 14 = b2i false := (tw_g_14 s).trans (hD.n hK).1
    refine tw_ci.eq (by decide) (t_isSet (L := 0) (N := 0) (T := []) ok x false hb (fun q => absurd q (by decide))) ?_
    exact ⟨fun c => absurd rfl c, fun _ => no1 (by unfold dk_drop; rw [hK])⟩
  | some K =>
    have hk := hD.k hK
    have hok := dk.2.2 K hK
    have hb : (tw_g s).1 14 = b2i true := (tw_g_14 s).trans hk.1
    have hq : tr_q (tw_g s) K.1 K.2.1 K.2.2.2.1 := hk.2.1
    have h8 := tr_8 hq
    refine tw_ci.eq (by decide) (t_isSet ok x true hb (fun _ => hq)) ?_
    rw [Bool.true_and, b2i_0]
    refine ⟨fun c => ?_, fun c => no1 (by unfold dk_drop; rw [hK]; simp only; rw [c]; rfl)⟩
    simp only [Bool.not_eq_false] at c
    have hdk : dk_drop D x = (1, dk_act D K (K.2.2.2.1.eraseIdx x.toNatClampNeg) (mkA 1 x (-2) (-2) (-2))) := by
      unfold dk_drop; rw [hK]; simp only; rw [if_pos c]
    obtain ⟨i, hi, rfl⟩ := inB_of c
    rw [nI_clamp (by omega)] at hdk
    have hq0 := was_q hk.2.1
    refine tw_cv.eq (by decide) (t_was ok) (tw_cv.use (by decide) (t_goesAway ok h8 hq0.1 hq0.2.1 hi) fun s5 ha => ?_)
    refine t_fin2 ok hD hK dk ha (zs_ok_erase hok.1 i) 1 (nI i) (-2) (-2) (-2) (by decide) (fun s' hs' => ⟨Or.inr rfl, ?_⟩)
    subst hQ
    rw [hdk]
    exact ⟨rfl, hs'⟩
end TW22
