/-! CONTRACTS of the reference: words, names, numbers of a book -/
set_option maxRecDepth 100000
/-- lines, rays and runs in an array -/
def tb_a (a : Nat → Int32) (B : zs_B) : Prop := a 51 = nI B.1 ∧ a 52 = nI B.2.1.length ∧ (∀ n, n < B.2.1.length → (∀ k, k < 3 → a (53 + 3 * n + k) = nI (zs_pt (zs_li B n) k)) ∧ a (77 + n) = nI (zs_li B n).2.2.2) ∧ a 85 = nI B.2.2.1.length ∧ (∀ n, n < B.2.2.1.length → ∀ k, k < 4 → a (86 + 4 * n + k) = iI (zs_ra B n k)) ∧ a 158 = nI B.2.2.2.length ∧ ∀ u, u < B.2.2.2.length → a (159 + u) = nI (zs_ru B u).length ∧ ∀ n x, (zs_ru B u)[n]? = some x → a (163 + 6 * u + n) = nI x.1 ∧ a (187 + 6 * u + n) = nI x.2
theorem tb_a_iff {s : tw_S} {L : Nat} {B : zs_B} : tr_b s L B ↔ zs_bok L B ∧ tb_a (s.2.1 15) B := Iff.rfl
/-- what is read so far, as a book -/
def rd_B (q : rd_Q) : zs_B := (q.2.2.2.1.length, q.2.2.2.2.2.1, q.2.2.2.2.2.2.1, q.2.2.2.2.2.2.2)
/-- names in an array, from a number on -/
def nm_a (a : Nat → Int32) (f : Nat) (l : List (List Nat)) : Prop := ∀ i w, l[i]? = some w → a (211 + (f + i)) = nI w.length ∧ ∀ k x, w[k]? = some x → a (226 + 8 * (f + i) + k) = nI x
def tf (a : Nat → Int32) (q : rd_Q) : Prop := a 49 = nI q.2.1 ∧ a 50 = nI q.2.2.1.length ∧ nm_a a 0 q.2.2.1 ∧ nm_a a 6 q.2.2.2.1 ∧ (∀ i, q.2.2.1.length ≤ i → i < 6 → a (211 + i) = 0) ∧ (∀ i, q.2.2.2.1.length ≤ i → i < 9 → a (217 + i) = 0) ∧ ta_tab a q.2.2.2.2.1 ∧ tb_a a (rd_B q) ∧ ∀ n, q.2.2.2.2.2.1.length ≤ n → n < 8 → a (77 + n) = 0
/-- what holds of what is read -/
def pok (q : rd_Q) : Prop := q.2.1 ≤ 60 ∧ q.2.2.1.length ≤ 6 ∧ (∀ w ∈ q.2.2.1 ++ q.2.2.2.1, 1 ≤ w.length ∧ w.length ≤ 8 ∧ ∀ c ∈ w, c < 128) ∧ (q.2.1 = 0 → q.2.2.2.2.1 = []) ∧ zs_ok q.2.2.1.length q.2.1 q.2.2.2.2.1 ∧ zs_bok q.2.2.1.length (rd_B q) ∧ ∀ w ∈ q.2.2.1, w ∉ q.2.2.2.1
/-- the places of an array that hold something -/
def used (q : rd_Q) (p : Nat) : Prop := p ≤ q.2.2.2.2.1.length ∨ (9 ≤ p ∧ p < 9 + q.2.2.2.2.1.length) ∨ (17 ≤ p ∧ p < 17 + 4 * q.2.2.2.2.1.length) ∨ (49 ≤ p ∧ p < 53 + 3 * q.2.2.2.2.2.1.length) ∨ (77 ≤ p ∧ p < 86 + 4 * q.2.2.2.2.2.2.1.length) ∨ (158 ≤ p ∧ p < 159 + q.2.2.2.2.2.2.2.length) ∨ (163 ≤ p ∧ p < 163 + 6 * q.2.2.2.2.2.2.2.length) ∨ (187 ≤ p ∧ p < 187 + 6 * q.2.2.2.2.2.2.2.length) ∨ (211 ≤ p ∧ p < 226 + 8 * q.2.2.1.length) ∨ (274 ≤ p ∧ p < 274 + 8 * q.2.2.2.1.length)
theorem tf_cong {a a' : Nat → Int32} {q : rd_Q} (hp : pok q) (h : tf a q) (e : ∀ p, used q p → a' p = a p) : tf a' q := by
  obtain ⟨h1, h2, h3, h4, h5, h6, h7, h8, h9⟩ := h
  obtain ⟨p1, p2, p3, p4, p5, p6, -⟩ := hp
  have b8 : q.2.2.2.2.2.1.length ≤ 8 := p6.2.1
  have b9 : q.2.2.2.1.length ≤ 9 := p6.1
  unfold used at e
  refine ⟨by rw [e 49 (by omega)]; exact h1, by rw [e 50 (by omega)]; exact h2, fun i w hw => ?_, fun i w hw => ?_, fun i h1 h2 => by rw [e _ (by omega)]; exact h5 i h1 h2, fun i h1 h2 => by rw [e _ (by omega)]; exact h6 i h1 h2, ⟨by rw [e 0 (by omega)]; exact h7.1, fun k x hx => ?_⟩, ?_, fun n h1 h2 => by rw [e _ (by omega)]; exact h9 n h1 h2⟩
  · have hi := (List.getElem?_eq_some_iff.mp hw).1
    have hl := (p3 w (List.mem_append_left _ (List.mem_of_getElem? hw))).2.1
    obtain ⟨g1, g2⟩ := h3 i w hw
    refine ⟨by rw [e _ (by omega)]; exact g1, fun k x hx => ?_⟩
    have hk := (List.getElem?_eq_some_iff.mp hx).1
    rw [e _ (by omega)]; exact g2 k x hx
  · have hi := (List.getElem?_eq_some_iff.mp hw).1
    have hl := (p3 w (List.mem_append_right _ (List.mem_of_getElem? hw))).2.1
    obtain ⟨g1, g2⟩ := h4 i w hw
    refine ⟨by rw [e _ (by omega)]; exact g1, fun k x hx => ?_⟩
    have hk := (List.getElem?_eq_some_iff.mp hx).1
    rw [e _ (by omega)]; exact g2 k x hx
  · have hk := (List.getElem?_eq_some_iff.mp hx).1
    have h4 := zs_out_le x
    obtain ⟨g1, g2, g3⟩ := h7.2 k x hx
    exact ⟨by rw [e _ (by omega)]; exact g1, by rw [e _ (by omega)]; exact g2, fun o ho => by rw [e _ (by omega)]; exact g3 o ho⟩
  · obtain ⟨g1, g2, g3, g4, g5, g6, g7⟩ := h8
    have l1 : (rd_B q).2.1.length = q.2.2.2.2.2.1.length := rfl
    have l2 : (rd_B q).2.2.1.length = q.2.2.2.2.2.2.1.length := rfl
    have l3 : (rd_B q).2.2.2.length = q.2.2.2.2.2.2.2.length := rfl
    refine ⟨by rw [e 51 (by omega)]; exact g1, by rw [e 52 (by omega)]; exact g2, fun n hn => ⟨fun k hk => ?_, ?_⟩, by rw [e 85 (by omega)]; exact g4, fun n hn k hk => ?_, by rw [e 158 (by omega)]; exact g6, fun u hu => ⟨?_, fun n x hx => ?_⟩⟩
    · rw [e _ (by omega)]; exact (g3 n hn).1 k hk
    · rw [e _ (by omega)]; exact (g3 n hn).2
    · rw [e _ (by omega)]; exact g5 n hn k hk
    · rw [e _ (by omega)]; exact (g7 u hu).1
    · have hx2 := (List.getElem?_eq_some_iff.mp hx).1
      have h6 := (p6.2.2.2.2.2.2 _ (ru_mem hu)).1
      rw [e _ (by omega), e _ (by omega)]
      exact (g7 u hu).2 n x hx
/-- what a token can be -/
def rk_ok (n : Nat) (t : rd_K) : Prop := t.1 < 256 ∧ t.2.1 ≤ n ∧ t.2.2.1 ≤ n ∧ (t.1 = 2 → 1 ≤ t.2.2.2.1.length ∧ t.2.2.2.1.length ≤ 8 ∧ ∀ c ∈ t.2.2.2.1, 97 ≤ c ∧ c ≤ 122) ∧ (t.1 = 3 → t.2.2.2.2 < 1000)
theorem rd_end_all {p : Nat → Bool} {tp : Nat → Nat} {n k : Nat} (m j : Nat) (hm : n - k ≤ m) (h1 : k ≤ j) (h2 : j < rd_end p tp n k) : p (tp j) = true := by
  induction m generalizing k with
  | zero =>
    rw [rd_end_no (by omega)] at h2
    omega
  | succ m ih =>
    by_cases c : k < n ∧ p (tp k) = true
    · by_cases e : j = k
      · rw [e]; exact c.2
      · rw [rd_end_go c.1 c.2] at h2
        exact ih (k := k + 1) (by omega) (by omega) h2
    · rw [rd_end_no c] at h2
      omega
theorem rd_dig_lt {tp : Nat → Nat} {k : Nat} (m : Nat) (hm : m ≤ 3) (h : ∀ j, j < m → isDg (tp (k + j)) = true) : rd_dig tp k m < 10 ^ m := by
  induction m with
  | zero => simp [rd_dig]
  | succ m ih =>
    have h1 := ih (by omega) (fun j hj => h j (by omega))
    have h2 := h m (by omega)
    unfold isDg at h2
    simp only [decide_eq_true_eq] at h2
    simp only [rd_dig]
    rw [Nat.pow_succ]
    omega
theorem rk_next {tp : Nat → Nat} {n k : Nat} (ht : ∀ k, tp k < 256) (hk : k ≤ n) : rk_ok n (rd_next tp n k) := by
  unfold rd_next
  have hk2 := rd_end_le (p := isSp) (tp := tp) hk
  generalize rd_end isSp tp n k = j at hk2
  have he := rd_tok_e (tp := tp) (n := n) (k := j)
  refine ⟨?_, by rw [he.2.2.2]; exact hk2, he.2.1 hk2, ?_, ?_⟩
  · unfold rd_tok
    have := ht j
    split
    · exact (by decide : 0 < 256)
    · split
      · show (if _ then 1 else 2) < 256
        split <;> omega
      · split
        · show (if _ then 1 else 3) < 256
          split <;> omega
        · show (if _ then tp j else 1) < 256
          split <;> omega
  · unfold rd_tok
    by_cases c : n ≤ j
    · rw [if_pos c]; intro q; cases q
    · rw [if_neg c]
      by_cases c1 : isSm (tp j) = true
      · rw [if_pos c1]
        intro q
        have g1 := rd_end_go (p := isSm) (tp := tp) (n := n) (k := j) (by omega) c1
        have g2 := rd_end_ge (p := isSm) (tp := tp) (n := n) (k := j + 1)
        refine ⟨?_, ?_, fun x hx => ?_⟩
        · show 1 ≤ (rd_let tp j _).length
          simp [rd_let]; omega
        · show (rd_let tp j _).length ≤ 8
          simp [rd_let]; omega
        · have hx : x ∈ rd_let tp j (min 8 (rd_end isSm tp n j - j)) := hx
          unfold rd_let at hx
          obtain ⟨i, hi, rfl⟩ := List.mem_map.mp hx
          have hi := List.mem_range.mp hi
          have := rd_end_all (p := isSm) (tp := tp) (n := n) (k := j) (n - j) (j + i) (Nat.le_refl _) (by omega) (by omega)
          unfold isSm at this
          simpa using this
      · rw [if_neg c1]
        by_cases c2 : isDg (tp j) = true
        · rw [if_pos c2]
          intro q
          have q : (if 3 < rd_end isDg tp n j - j then 1 else 3) = 2 := q
          split at q <;> omega
        · rw [if_neg c2]
          intro q
          have q : (if tp j = 59 ∨ tp j = 44 ∨ tp j = 45 then tp j else 1) = 2 := q
          split at q <;> omega
  · unfold rd_tok
    by_cases c : n ≤ j
    · rw [if_pos c]; intro q; cases q
    · rw [if_neg c]
      by_cases c1 : isSm (tp j) = true
      · rw [if_pos c1]
        intro q
        have q : (if 8 < rd_end isSm tp n j - j then 1 else 2) = 3 := q
        split at q <;> omega
      · rw [if_neg c1]
        by_cases c2 : isDg (tp j) = true
        · rw [if_pos c2]
          intro q
          show rd_dig tp j (min 3 (rd_end isDg tp n j - j)) < 1000
          have := rd_dig_lt (tp := tp) (k := j) (min 3 (rd_end isDg tp n j - j)) (by omega) (fun i hi => rd_end_all (n - j) (j + i) (Nat.le_refl _) (by omega) (by omega))
          have p3 : (10 : Nat) ^ (min 3 (rd_end isDg tp n j - j)) ≤ 10 ^ 3 := Nat.pow_le_pow_right (by omega) (by omega)
          omega
        · rw [if_neg c2]
          intro q
          have q : (if tp j = 59 ∨ tp j = 44 ∨ tp j = 45 then tp j else 1) = 3 := q
          split at q <;> omega
/-- what reading may change -/
def rf_f (s0 s : tw_S) : Prop := (∀ k, k < 3 ∨ 10 < k → k ≠ 13 → s.1 k = s0.1 k) ∧ ∀ k, k ≠ 12 → s.2.1 k = s0.2.1 k
/-- how the reference stands while a book is read -/
def rf_r (s0 : tw_S) (tp : Nat → Nat) (n : Nat) (s : tw_S) (q : rd_Q) : Prop := rf_f s0 s ∧ s.1 13 = 0 ∧ s.1 9 = s0.1 9 ∧ s.1 10 = s0.1 10 ∧ rf_t s tp n ∧ rf_k s q.1 ∧ rk_ok n q.1 ∧ tf (s.2.1 16) q ∧ pok q
def rf_e (s0 s : tw_S) (e : Nat × Nat) : Prop := rf_f s0 s ∧ s.1 13 = 1 ∧ s.1 9 = nI e.1 ∧ s.1 10 = nI e.2
def rf_x (s0 : tw_S) (tp : Nat → Nat) (n : Nat) (s : tw_S) (X : rd_X rd_Q) : Prop := match X with
  | .ok q => rf_r s0 tp n s q
  | .error e => rf_e s0 s e
/-- the same, with a value beside it -/
def rf_v (s0 : tw_S) (tp : Nat → Nat) (n : Nat) (r : Int32) (s : tw_S) (X : rd_X (Nat × rd_Q)) : Prop := match X with
  | .ok x => r = nI x.1 ∧ rf_r s0 tp n s x.2
  | .error e => rf_e s0 s e
theorem rf_f.nx {s0 s s' : tw_S} (hf : rf_f s0 s) (hn : rf_n s s') : rf_f s0 s' := ⟨fun k h1 h2 => by rw [hn.1 k (by omega)]; exact hf.1 k h1 h2, fun k h1 => by rw [hn.2 k h1]; exact hf.2 k h1⟩
section TW28
variable {G : wq_G} {l : Launch} {o : Nat} {ad : Nat → Nat} {h : wq_H} {s s0 : tw_S} {tp : Nat → Nat} {n : Nat} {q : rd_Q}
/-- the next token -/
theorem t_adv (ok : tw_ok G o ad) (hr : rf_r s0 tp n s q) : wq_C G l 1 0 0 mX3_next [.ref o] (tw_h G o ad s h) (tw_qv G o ad h fun s' => rf_r s0 tp n s' (rd_adv tp n q)) := by
  obtain ⟨h1, h2, h3, h4, h5, h6, h7, h8, h9⟩ := hr
  refine (t_next (h := h) (l := l) ok h5 h7.2.2.1 h6.2.1).mono ?_
  rintro r h' ⟨s', e1, e2, hn, hk⟩
  refine ⟨s', e1, e2, h1.nx hn, by rw [hn.1 13 (by omega)]; exact h2, by rw [hn.1 9 (by omega)]; exact h3, by rw [hn.1 10 (by omega)]; exact h4, h5.mv hn, hk, rk_next h5.2.2.1 h7.2.2.1, ?_, h9⟩
  rw [hn.2 16 (by decide)]; exact h8
theorem t_wrong (ok : tw_ok G o ad) (hr : rf_r s0 tp n s q) (f : Nat) : wq_C G l 0 0 0 mX3_wrong [.ref o, .int (nI f), .int (s.1 4)] (tw_h G o ad s h) (tw_qv G o ad h fun s' => rf_e s0 s' (f, q.1.2.1)) := by
  obtain ⟨h1, h2, h3, h4, h5, h6, h7, h8, h9⟩ := hr
  refine wq_C.of pn_X3 (Nat.le_of_ble_eq_true rfl) rfl (vX3_wrong_0 ok ⟨fun _ => ?_, fun c => absurd h2 c⟩)
  rw [h6.1]
  refine ⟨⟨fun k q1 q2 => ?_, h1.2⟩, rfl, rfl, rfl⟩
  rw [pi_ne (by omega), pi_ne (by omega), pi_ne q2]
  exact h1.1 k q1 q2
theorem t_wrong_e (ok : tw_ok G o ad) (h13 : s.1 13 = 1) (x y : Int32) : wq_C G l 0 0 0 mX3_wrong [.ref o, .int x, .int y] (tw_h G o ad s h) (tw_qv G o ad h fun s' => s' = s) :=
  wq_C.of pn_X3 (Nat.le_of_ble_eq_true rfl) rfl (vX3_wrong_0 ok ⟨fun c => absurd (h13.symm.trans c) (by decide), fun _ => rfl⟩)
theorem t_isWord (ok : tw_ok G o ad) (sc : sc_ok G h) (hr : rf_r s0 tp n s q) {i : Nat} {w : List Nat} (hw : (i, w) ∈ sc_ws) : wq_C G l 4 0 0 mX3_isWord [.ref o, .ref (G.2.2.2.2 i)] (tw_h G o ad s h) (tw_qi G o ad h fun r s' => r = b2i (rd_isw q w) ∧ s' = s) := by
  obtain ⟨va, hs⟩ : ∃ va, str_at G (tw_h G o ad s h) (G.2.2.2.2 i) va w := sc_tw (s := s) ok sc hw
  obtain ⟨h1, h2, h3, h4, h5, h6, h7, h8, h9⟩ := hr
  obtain ⟨c1, c2, ⟨hs1, hz, c3⟩, c4⟩ := id hs
  have e2 : nI q.1.1 = 2 ↔ q.1.1 = 2 := nI_eq (b := 2) (by have := h7.1; omega) (by omega)
  generalize hQ : (fun (r : Int32) (s' : tw_S) => r = b2i (rd_isw q w) ∧ s' = s) = Q
  refine wq_C.of pn_X3 (Nat.le_of_ble_eq_true rfl) rfl (vX3_isWord_0 ok ⟨fun c => absurd h2 c, fun _ => ?_⟩)
  rw [h6.2.2.1, e2]
  refine ⟨fun c => ?_, fun c => ⟨_, c3, tw_ci.of (by decide) (c_length hs) ?_⟩⟩
  · subst hQ
    unfold rd_isw
    rw [decide_eq_false c]
    exact ⟨rfl, rfl⟩
  · obtain ⟨k1, k2⟩ := h6.2.2.2.2 c
    obtain ⟨t1, t2, t3⟩ := h7.2.2.2.1 c
    rw [k1, nI_eq (by omega) (by omega)]
    refine ⟨fun el => ?_, fun el => ?_⟩
    · have key : ∀ m j b, j + m = q.1.2.2.2.1.length → (b = true ↔ ∀ i, i < j → q.1.2.2.2.1[i]? = w[i]?) → tw_T G l o ad h 4 mX3_isWord (tw_qi G o ad h Q) 32 [some (.ref o), some (.ref (G.2.2.2.2 i)), some (.int (b2i b)), some (.int (nI j))] [] s := by
        intro m
        induction m with
        | zero =>
          intro j b hj hb
          obtain rfl : j = q.1.2.2.2.1.length := by omega
          refine vX3_isWord_32 ok ⟨fun _ => ⟨b2i_z b, ?_⟩, fun c => ?_⟩
          · subst hQ
            refine ⟨?_, rfl⟩
            unfold rd_isw
            rw [decide_eq_true c, Bool.true_and]
            congr 1
            rw [Bool.eq_iff_iff, hb, decide_eq_true_iff]
            constructor
            · intro hh
              apply List.ext_getElem?
              intro i
              by_cases ci : i < q.1.2.2.2.1.length
              · exact hh i ci
              · rw [List.getElem?_eq_none (by omega), List.getElem?_eq_none (by omega)]
            · intro hh i _; rw [hh]
          · rw [k1] at c
            exact absurd (Int32.le_refl _) c
        | succ m ih =>
          intro j b hj hb
          have hjl : j < q.1.2.2.2.1.length := by omega
          have hjw : j < w.length := by omega
          have gx := List.getElem?_eq_getElem hjl
          have gw := List.getElem?_eq_getElem hjw
          refine vX3_isWord_32 ok ⟨fun c => ?_, fun _ => ⟨fun cb => ?_, fun cb => tw_ld_n j rfl (by show _ < 8; omega) ⟨_, c3, tw_ci.of (by decide) (c_charAt hs gw) ?_⟩⟩⟩
          · rw [k1, nI_leI (by omega) (by omega)] at c
            omega
          · rw [b2i_0] at cb
            rw [nI_1]
            refine ih (j + 1) false (by omega) ⟨fun q => absurd q (by decide), fun q => ?_⟩
            have := hb.mpr (fun i hi => q i (by omega))
            rw [cb] at this; exact this
          · rw [b2i_0] at cb
            simp only [Bool.not_eq_false] at cb
            have hb := hb.mp cb
            rw [k2 j _ gx]
            have b1 := t3 _ (List.getElem_mem hjl)
            have b2 := c1 _ (List.getElem_mem hjw)
            rw [nI_eq (by omega) (by omega)]
            refine ⟨fun cn => ?_, fun cn => ?_⟩
            · rw [nI_1]
              refine ih (j + 1) false (by omega) ⟨fun q => absurd q (by decide), fun q => ?_⟩
              have := q j (by omega)
              rw [gx, gw, Option.some.injEq] at this
              exact absurd this cn
            · rw [nI_1]
              refine ih (j + 1) true (by omega) ⟨fun _ i hi => ?_, fun _ => rfl⟩
              by_cases e : i = j
              · subst e; rw [gx, gw, cn]
              · exact hb i (by omega)
      exact key q.1.2.2.2.1.length 0 true (by omega) ⟨fun _ i hi => by omega, fun _ => rfl⟩
    · subst hQ
      refine ⟨?_, rfl⟩
      unfold rd_isw
      rw [show decide (q.1.2.2.2.1 = w) = false from decide_eq_false (fun e => el (by rw [e])), Bool.and_false]; rfl
theorem t_isWord_e (ok : tw_ok G o ad) (h13 : s.1 13 = 1) (a : Nat) : wq_C G l 0 0 0 mX3_isWord [.ref o, .ref a] (tw_h G o ad s h) (tw_qi G o ad h fun r s' => r = 0 ∧ s' = s) :=
  wq_C.of pn_X3 (Nat.le_of_ble_eq_true rfl) rfl (vX3_isWord_0 ok ⟨fun _ => ⟨rfl, rfl⟩, fun c => absurd (h13.symm.trans c) (by decide)⟩)
theorem t_takes (ok : tw_ok G o ad) (sc : sc_ok G h) (hr : rf_r s0 tp n s q) {i : Nat} {w : List Nat} (hw : (i, w) ∈ sc_ws) : wq_C G l 5 0 0 mX3_takes [.ref o, .ref (G.2.2.2.2 i)] (tw_h G o ad s h) (tw_qi G o ad h fun r s' => r = b2i (rd_isw q w) ∧ (rd_isw q w = true → rf_r s0 tp n s' (rd_adv tp n q)) ∧ (rd_isw q w = false → s' = s)) := by
  refine wq_C.of pn_X3 (Nat.le_of_ble_eq_true rfl) rfl (vX3_takes_0 ok (tw_ci.eq (by decide) (t_isWord ok sc hr hw) ?_))
  rw [b2i_0]
  refine ⟨fun c => tw_cv.use (by decide) (t_adv ok hr) fun s' hs' => ?_, fun c => ⟨by rw [c]; rfl, fun q => absurd (q.symm.trans c) (by decide), fun _ => rfl⟩⟩
  simp only [Bool.not_eq_false] at c
  exact ⟨by rw [c]; rfl, fun _ => hs', fun q => absurd (q.symm.trans c) (by decide)⟩
theorem t_pass (ok : tw_ok G o ad) (sc : sc_ok G h) {X : rd_X rd_Q} (hx : rf_x s0 tp n s X) {i : Nat} {w : List Nat} (hw : (i, w) ∈ sc_ws) : wq_C G l 6 0 0 mX3_pass [.ref o, .ref (G.2.2.2.2 i)] (tw_h G o ad s h) (tw_qv G o ad h fun s' => rf_x s0 tp n s' (X.bind (rd_ps tp n w))) := by
  cases X with
  | error e =>
    have hx : rf_e s0 s e := hx
    exact wq_C.of pn_X3 (Nat.le_of_ble_eq_true rfl) rfl (vX3_pass_0 ok ⟨fun _ => hx, fun c => absurd (hx.2.1.symm.trans c) (by decide)⟩)
  | ok q =>
    have hr : rf_r s0 tp n s q := hx
    refine wq_C.of pn_X3 (Nat.le_of_ble_eq_true rfl) rfl (vX3_pass_0 ok ⟨fun c => absurd hr.2.1 c, fun _ => tw_ci.use (by decide) (t_takes ok sc hr hw) ?_⟩)
    rintro r s1 ⟨rfl, g1, g2⟩
    rw [b2i_0]
    refine ⟨fun c => ?_, fun c => ?_⟩
    · simp only [Bool.not_eq_false] at c
      show rf_x s0 tp n s1 (rd_ps tp n w q)
      unfold rd_ps; rw [if_pos c]
      exact g1 c
    · obtain rfl := g2 c
      refine tw_cv.use (by decide) (t_wrong ok hr 1) fun s' hs' => ?_
      show rf_x s0 tp n s' (rd_ps tp n w q)
      unfold rd_ps; rw [if_neg (by rw [c]; decide)]
      exact hs'
theorem t_comma (ok : tw_ok G o ad) (hr : rf_r s0 tp n s q) : wq_C G l 2 0 0 mX3_comma [.ref o] (tw_h G o ad s h) (tw_qi G o ad h fun r s' => r = b2i (decide (q.1.1 = 44)) ∧ (q.1.1 = 44 → rf_r s0 tp n s' (rd_adv tp n q)) ∧ (q.1.1 ≠ 44 → s' = s)) := by
  have e44 : nI q.1.1 = 44 ↔ q.1.1 = 44 := nI_eq (b := 44) (by have := hr.2.2.2.2.2.2.1.1; omega) (by omega)
  refine wq_C.of pn_X3 (Nat.le_of_ble_eq_true rfl) rfl (vX3_comma_0 ok ⟨fun c => absurd hr.2.1 c, fun _ => ?_⟩)
  rw [hr.2.2.2.2.2.1.2.2.1, e44]
  refine ⟨fun c => tw_cv.use (by decide) (t_adv ok hr) fun s' hs' => ⟨b2i_of c, fun _ => hs', fun q => absurd c q⟩, fun c => ⟨b2i_not c, fun q => absurd q c, fun _ => rfl⟩⟩
theorem t_comma_e (ok : tw_ok G o ad) (h13 : s.1 13 = 1) : wq_C G l 0 0 0 mX3_comma [.ref o] (tw_h G o ad s h) (tw_qi G o ad h fun r s' => r = 0 ∧ s' = s) :=
  wq_C.of pn_X3 (Nat.le_of_ble_eq_true rfl) rfl (vX3_comma_0 ok ⟨fun _ => ⟨rfl, rfl⟩, fun c => absurd (h13.symm.trans c) (by decide)⟩)
theorem t_mustComma (ok : tw_ok G o ad) {X : rd_X rd_Q} (hx : rf_x s0 tp n s X) : wq_C G l 3 0 0 mX3_mustComma [.ref o] (tw_h G o ad s h) (tw_qv G o ad h fun s' => rf_x s0 tp n s' (X.bind (rd_cm tp n))) := by
  cases X with
  | error e =>
    have hx : rf_e s0 s e := hx
    exact wq_C.of pn_X3 (Nat.le_of_ble_eq_true rfl) rfl (vX3_mustComma_0 ok ⟨fun _ => hx, fun c => absurd (hx.2.1.symm.trans c) (by decide)⟩)
  | ok q =>
    have hr : rf_r s0 tp n s q := hx
    refine wq_C.of pn_X3 (Nat.le_of_ble_eq_true rfl) rfl (vX3_mustComma_0 ok ⟨fun c => absurd hr.2.1 c, fun _ => tw_ci.use (by decide) (t_comma ok hr) ?_⟩)
    rintro r s1 ⟨rfl, g1, g2⟩
    rw [b2i_0]
    refine ⟨fun c => ?_, fun c => ?_⟩
    · simp only [decide_eq_false_iff_not, Decidable.not_not] at c
      show rf_x s0 tp n s1 (rd_cm tp n q)
      unfold rd_cm; rw [if_pos c]
      exact g1 c
    · simp only [decide_eq_false_iff_not] at c
      obtain rfl := g2 c
      refine tw_cv.use (by decide) (t_wrong ok hr 1) fun s' hs' => ?_
      show rf_x s0 tp n s' (rd_cm tp n q)
      unfold rd_cm; rw [if_neg c]
      exact hs'
theorem t_number (ok : tw_ok G o ad) {X : rd_X rd_Q} (hx : rf_x s0 tp n s X) {lo hi : Nat} (hlo : lo < 1000) (hhi : hi < 1000) : wq_C G l 2 0 0 mX3_number [.ref o, .int (nI lo), .int (nI hi)] (tw_h G o ad s h) (tw_qi G o ad h fun r s' => rf_v s0 tp n r s' (X.bind (rd_no tp n lo hi))) := by
  cases X with
  | error e =>
    have hx : rf_e s0 s e := hx
    exact wq_C.of pn_X3 (Nat.le_of_ble_eq_true rfl) rfl (vX3_number_0 ok ⟨fun c => absurd (hx.2.1.symm.trans c) (by decide), fun _ => hx⟩)
  | ok q =>
    have hr : rf_r s0 tp n s q := hx
    obtain ⟨h1, h2, h3, h4, h5, h6, h7, h8, h9⟩ := id hr
    have e3 : nI q.1.1 = 3 ↔ q.1.1 = 3 := nI_eq (b := 3) (by have := h7.1; omega) (by omega)
    have bind_eq : ∀ (r : Int32) (s' : tw_S), rf_v s0 tp n r s' (rd_no tp n lo hi q) → rf_v s0 tp n r s' (Except.bind (Except.ok q) (rd_no tp n lo hi)) := fun _ _ h => h
    refine wq_C.of pn_X3 (Nat.le_of_ble_eq_true rfl) rfl (vX3_number_0 ok ⟨fun _ => ?_, fun c => absurd h2 c⟩)
    rw [h6.2.2.1, e3]
    refine ⟨fun c => tw_ci.eq (by decide) (t_within ok 0 (s.1 7) (nI lo) (nI hi)) ?_, fun c => tw_cv.use (by decide) (t_wrong ok hr 1) fun s' hs' => bind_eq _ _ ?_⟩
    · have e7 := h6.2.2.2.1 c
      have n7 := h7.2.2.2.2 c
      rw [e7, b2i_0]
      have ei : (nI lo ≤ nI q.1.2.2.2.2 ∧ nI q.1.2.2.2.2 ≤ nI hi) ↔ (lo ≤ q.1.2.2.2.2 ∧ q.1.2.2.2.2 ≤ hi) := by rw [nI_leI (by omega) (by omega), nI_leI (by omega) (by omega)]
      refine ⟨fun c2 => tw_cv.use (by decide) (t_adv ok hr) fun s' hs' => bind_eq _ _ ?_, fun c2 => tw_cv.use (by decide) (t_wrong ok hr 4) fun s' hs' => bind_eq _ _ ?_⟩
      · simp only [decide_eq_false_iff_not, Decidable.not_not] at c2
        unfold rd_no; rw [if_pos c, if_pos (ei.mp c2)]
        exact ⟨rfl, hs'⟩
      · simp only [decide_eq_false_iff_not] at c2
        unfold rd_no; rw [if_pos c, if_neg (fun q => c2 (ei.mpr q))]
        exact hs'
    · unfold rd_no; rw [if_neg c]
      exact hs'
theorem t_mustName (ok : tw_ok G o ad) (sc : sc_ok G h) (hr : rf_r s0 tp n s q) : wq_C G l 5 0 0 mX3_mustName [.ref o] (tw_h G o ad s h) (tw_qv G o ad h fun s' => (rd_isn q = true → s' = s) ∧ (rd_isn q = false → rf_e s0 s' (1, q.1.2.1))) := by
  have e2 : nI q.1.1 = 2 ↔ q.1.1 = 2 := nI_eq (b := 2) (by have := hr.2.2.2.2.2.2.1.1; omega) (by omega)
  generalize hQ : (fun s' => (rd_isn q = true → s' = s) ∧ (rd_isn q = false → rf_e s0 s' (1, q.1.2.1))) = Q
  have fin : ∀ b : Bool, (b = (rd_isw q w_law || (rd_isw q w_look || (rd_isw q w_point || (rd_isw q w_set || (rd_isw q w_line || (rd_isw q w_ray || rd_isw q w_run))))))) → tw_T G l o ad h 5 mX3_mustName (tw_qv G o ad h Q) 68 [some (.ref o), none] [.int (b2i b)] s := by
    intro b hb
    refine vX3_mustName_68 ok ?_
    rw [hr.2.2.2.2.2.1.2.2.1, e2, b2i_0]
    refine ⟨fun c => tw_cv.use (by decide) (t_wrong ok hr 1) fun s' hs' => ?_, fun c => ⟨fun c2 => ?_, fun c2 => tw_cv.use (by decide) (t_wrong ok hr 1) fun s' hs' => ?_⟩⟩
    · subst hQ
      have : rd_isn q = false := by unfold rd_isn; rw [decide_eq_false c]; rfl
      exact ⟨fun q => absurd (q.symm.trans this) (by decide), fun _ => hs'⟩
    · subst hQ
      have : rd_isn q = true := by unfold rd_isn; rw [← hb, c2, decide_eq_true c]; rfl
      exact ⟨fun _ => rfl, fun q => absurd (q.symm.trans this) (by decide)⟩
    · subst hQ
      simp only [Bool.not_eq_false] at c2
      have : rd_isn q = false := by unfold rd_isn; rw [← hb, c2, Bool.not_true, Bool.and_false]
      exact ⟨fun q => absurd (q.symm.trans this) (by decide), fun _ => hs'⟩
  have w := fun {i : Nat} {w : List Nat} (hw : (i, w) ∈ sc_ws) => t_isWord (h := h) (l := l) ok sc hr hw
  refine wq_C.of pn_X3 (Nat.le_of_ble_eq_true rfl) rfl (vX3_mustName_0 ok ?_)
  refine tw_ci.eq (by decide) (w (w := w_law) (by decide)) ?_
  rw [b2i_0]
  refine ⟨fun c => ?_, fun c1 => tw_ci.eq (by decide) (w (w := w_look) (by decide)) ?_⟩
  · simp only [Bool.not_eq_false] at c
    exact fin true (by rw [c]; rfl)
  rw [b2i_0]
  refine ⟨fun c => ?_, fun c2 => tw_ci.eq (by decide) (w (w := w_point) (by decide)) ?_⟩
  · simp only [Bool.not_eq_false] at c
    exact fin true (by rw [c, c1]; rfl)
  rw [b2i_0]
  refine ⟨fun c => ?_, fun c3 => tw_ci.eq (by decide) (w (w := w_set) (by decide)) ?_⟩
  · simp only [Bool.not_eq_false] at c
    exact fin true (by rw [c, c1, c2]; rfl)
  rw [b2i_0]
  refine ⟨fun c => ?_, fun c4 => tw_ci.eq (by decide) (w (w := w_line) (by decide)) ?_⟩
  · simp only [Bool.not_eq_false] at c
    exact fin true (by rw [c, c1, c2, c3]; rfl)
  rw [b2i_0]
  refine ⟨fun c => ?_, fun c5 => tw_ci.eq (by decide) (w (w := w_ray) (by decide)) ?_⟩
  · simp only [Bool.not_eq_false] at c
    exact fin true (by rw [c, c1, c2, c3, c4]; rfl)
  rw [b2i_0]
  refine ⟨fun c => ?_, fun c6 => tw_ci.eq (by decide) (w (w := w_run) (by decide)) ?_⟩
  · simp only [Bool.not_eq_false] at c
    exact fin true (by rw [c, c1, c2, c3, c4, c5]; rfl)
  rw [b2i_0]
  refine ⟨fun c7 => ?_, fun c => ?_⟩
  · exact fin false (by rw [c1, c2, c3, c4, c5, c6, c7]; rfl)
  · simp only [Bool.not_eq_false] at c
    exact fin true (by rw [c, c1, c2, c3, c4, c5, c6]; rfl)
end TW28
