/-! CONTRACTS of the reference: tokens -/
set_option maxRecDepth 100000
theorem pn_J5 : plainName RJ5 = true := by decide +kernel
theorem pn_J10 : plainName RJ10 = true := by decide +kernel
/-- a text of small letters in the heap -/
def str_at (G : wq_G) (h : wq_H) (a va : Nat) (w : List Nat) : Prop := (∀ c ∈ w, c < 128) ∧ w.length ≤ 100000 ∧ (∃ hs hz : Int32, h a = some (.inr (18, [.ref va, .int 0, .int hs, .int hz]))) ∧ ∃ f : Nat → Int32, h va = some (.inl (G.2.2.1 2, w.length, .inl f)) ∧ ∀ k x, w[k]? = some x → f k = nI x
theorem ab_n {G : wq_G} {h : wq_H} {a m : Nat} {f : Nat → Int32} {i : Int32} {F : Int32 → Prop} (ha : h a = some (.inl (G.2.2.1 2, m, .inl f))) (n : Nat) (e : i = nI n) (hn : n < m) (hm : m < 2 ^ 31) (q : F (f n)) : wq_ab G h a i F := by
  subst e
  refine ⟨m, f, ha, vp_in_nI hn hm, ?_⟩
  rw [nI_clamp (by omega)]
  exact q
theorem ag_b {G : wq_G} {h : wq_H} {a m : Nat} {x : _} {F : Int32 → Prop} (ha : h a = some (.inl (G.2.2.1 2, m, x))) (q : F (nI m)) : wq_ag G h a F :=
  ⟨G.2.2.1 2, .byte, (m, x), by simp, ha, q⟩
section STR
variable {G : wq_G} {l : Launch} {h : wq_H}
theorem c_coder {a va : Nat} {w : List Nat} (hs : str_at G h a va w) : wq_C G l 0 0 0 mJ5_coder [.ref a] h (wq_qi fun x h' => x = 0 ∧ h' = h) := by
  obtain ⟨-, -, ⟨hs, hz, h1⟩, -⟩ := hs
  exact wq_C.of pn_J5 (Nat.le_of_ble_eq_true rfl) rfl (vJ5_coder_0 ⟨fun c => absurd c (by decide), fun _ => gI1 h1 rfl ⟨by decide, rfl, rfl⟩⟩)
theorem c_latin {a va : Nat} {w : List Nat} (hs : str_at G h a va w) : wq_C G l 0 0 0 mJ5_isLatin1 [.ref a] h (wq_qi fun x h' => x = 1 ∧ h' = h) := by
  obtain ⟨-, -, ⟨hs, hz, h1⟩, -⟩ := hs
  exact wq_C.of pn_J5 (Nat.le_of_ble_eq_true rfl) rfl (vJ5_isLatin1_0 ⟨fun c => absurd c (by decide), fun _ => gI1 h1 rfl ⟨fun c => absurd rfl c, fun _ => ⟨rfl, rfl⟩⟩⟩)
theorem c_length {a va : Nat} {w : List Nat} (hs : str_at G h a va w) : wq_C G l 1 0 0 mJ5_length [.ref a] h (wq_qi fun x h' => x = nI w.length ∧ h' = h) := by
  obtain ⟨-, hl, ⟨hs1, hz, h1⟩, f, h2, -⟩ := id hs
  refine wq_C.of pn_J5 (Nat.le_of_ble_eq_true rfl) rfl (vJ5_length_0 (gR1 h1 rfl (ag_b h2 ⟨_, h1, wq_ci.eq (by decide) (c_coder hs) ⟨?_, rfl⟩⟩)))
  have := nI_shr (a := w.length) (k := 0) (by omega) (by omega)
  rw [Nat.pow_zero, Nat.div_one] at this
  exact this
theorem c_sck {i n : Nat} (hi : i < n) (hn : n < 2 ^ 31) : wq_C G l 1 0 0 mJ5_checkIndex [.int (nI i), .int (nI n)] h (wq_qv fun h' => h' = h) :=
  wq_C.of pn_J5 (Nat.le_of_ble_eq_true rfl) rfl (vJ5_checkIndex_0 fun r => wq_ci.eq (by decide) (c_chk hi hn r) rfl)
theorem wq_cw.eq {d d' C S : Nat} {M : wq_M} {args : List Value} {h1 : wq_H} {F : wq_H → Nat → Nat → Prop} (hd : d' < d) (c : wq_C G l d' 0 0 M args h (wq_qv fun h' => h' = h1)) (k : F h1 C S) : wq_cw G l d C S M args h F :=
  ⟨d', 0, 0, hd, Nat.zero_le _, Nat.zero_le _, c.mono (fun r h' q => ⟨q.1, by have e := q.2; subst e; exact k⟩)⟩
theorem ch_128 : ∀ c, c < 128 → ((nI c &&& 255).toUInt32 % 65536).toInt32 = nI c ∧ narrow .char (.int (nI c)) = .int (nI c) := by decide +kernel
theorem c_lcharAt {va i x : Nat} {m : Nat} {f : Nat → Int32} (hv : h va = some (.inl (G.2.2.1 2, m, .inl f))) (hi : i < m) (hm : m < 2 ^ 31) (hf : f i = nI x) (hx : x < 128) : wq_C G l 2 0 0 mJ10_charAt [.ref va, .int (nI i)] h (wq_qi fun y h' => y = nI x ∧ h' = h) := by
  refine wq_C.of pn_J10 (Nat.le_of_ble_eq_true rfl) rfl (vJ10_charAt_0 (ag_b hv (wq_cw.eq (by decide) (c_sck hi hm) (ab_n hv i rfl hi hm ?_))))
  rw [hf, (ch_128 x hx).1]
  exact ⟨(ch_128 x hx).2, rfl, rfl⟩
theorem c_charAt {a va : Nat} {w : List Nat} (hs : str_at G h a va w) {i x : Nat} (hx : w[i]? = some x) : wq_C G l 3 0 0 mJ5_charAt [.ref a, .int (nI i)] h (wq_qi fun y h' => y = nI x ∧ h' = h) := by
  obtain ⟨hc, hl, ⟨hs1, hz, h1⟩, f, h2, h3⟩ := id hs
  have hi := (List.getElem?_eq_some_iff.mp hx).1
  have hx2 := hc x (List.mem_of_getElem? hx)
  refine wq_C.of pn_J5 (Nat.le_of_ble_eq_true rfl) rfl (vJ5_charAt_0 ⟨_, h1, wq_ci.eq (by decide) (c_latin hs) ⟨fun c => absurd c (by decide), fun _ => gR1 h1 rfl (wq_ci.eq (by decide) (c_lcharAt h2 hi (by omega) (h3 i x hx) hx2) ⟨(ch_128 x hx2).2, rfl, rfl⟩)⟩⟩)
end STR
/-- the texts that are told apart, by their places among the constants -/
def sc_ws : List (Nat × List Nat) := [(10, []), (11, w_even), (12, w_is), (13, w_law), (14, w_line), (15, w_look), (16, w_odd), (17, w_of), (18, w_point), (19, w_ray), (20, w_run), (21, w_set), (22, w_tells)]
def sc_ok (G : wq_G) (h : wq_H) : Prop := ∀ q ∈ sc_ws, ∃ va, G.2.2.2.2 q.1 < G.1 ∧ va < G.1 ∧ str_at G h (G.2.2.2.2 q.1) va q.2
section TW27
variable {G : wq_G} {l : Launch} {o : Nat} {ad : Nat → Nat} {h : wq_H} {s : tw_S} {tp : Nat → Nat} {n : Nat}
theorem sc_tw (ok : tw_ok G o ad) (sc : sc_ok G h) {q : Nat × List Nat} (hq : q ∈ sc_ws) : ∃ va, str_at G (tw_h G o ad s h) (G.2.2.2.2 q.1) va q.2 := by
  obtain ⟨va, h1, h2, h3⟩ := sc q hq
  refine ⟨va, ?_⟩
  unfold str_at at *
  rw [tw_low ok h1, tw_low ok h2]
  exact h3
theorem tw_ci.of {d d' : Nat} {M : wq_M} {args : List Value} {v : Int32} {K : Int32 → tw_S → Prop} (hd : d' < d) (c : wq_C G l d' 0 0 M args (tw_h G o ad s h) (wq_qi fun x h' => x = v ∧ h' = tw_h G o ad s h)) (k : K v s) : tw_ci G l o ad h d M args s K :=
  ⟨d', hd, c.mono (fun r h' ⟨x, h1, h2⟩ => ⟨x, s, h1, h2.2, by rw [h2.1]; exact k⟩)⟩
/-- what is seen at a place of the text -/
def rd_sv (tp : Nat → Nat) (n k : Nat) : Int32 := if k < n then nI (tp k) else -1
/-- the text as it lies there -/
def rf_t (s : tw_S) (tp : Nat → Nat) (n : Nat) : Prop := n ≤ 900 ∧ s.1 3 = nI n ∧ (∀ k, tp k < 256) ∧ ∀ k, k < n → s.2.1 1 k = nI (tp k)
theorem t_see (ok : tw_ok G o ad) (ht : rf_t s tp n) {k : Nat} (hk : k ≤ 900) : wq_C G l 0 0 0 mX3_see [.ref o, .int (nI k)] (tw_h G o ad s h) (tw_qi G o ad h fun r s' => r = rd_sv tp n k ∧ s' = s) := by
  obtain ⟨h1, h2, h3, h4⟩ := ht
  refine wq_C.of pn_X3 (Nat.le_of_ble_eq_true rfl) rfl (vX3_see_0 ok ?_)
  rw [h2, nI_leI (by omega) (by omega)]
  refine ⟨fun c => ⟨by unfold rd_sv; rw [if_neg (by omega)], rfl⟩, fun c => tw_ld_n k rfl (by show _ < 900; omega) ⟨?_, rfl⟩⟩
  unfold rd_sv
  rw [if_pos (by omega), h4 k (by omega)]
theorem sv_sp (ht : ∀ k, tp k < 256) (k : Nat) : rd_sv tp n k = 32 ↔ (k < n ∧ isSp (tp k) = true) := by
  unfold rd_sv isSp
  have := ht k
  by_cases c : k < n
  · rw [if_pos c]
    have e : nI (tp k) = 32 ↔ tp k = 32 := nI_eq (b := 32) (by omega) (by omega)
    rw [e]; simp [c]
  · rw [if_neg c]
    constructor
    · intro q; exact absurd q (by decide)
    · intro q; exact absurd q.1 c
theorem sv_end (ht : ∀ k, tp k < 256) (k : Nat) : rd_sv tp n k = -1 ↔ n ≤ k := by
  unfold rd_sv
  have := ht k
  by_cases c : k < n
  · rw [if_pos c]
    constructor
    · intro q
      have : ∀ x, x < 256 → ¬ nI x = -1 := by decide
      exact absurd q (this _ (ht k))
    · intro q; omega
  · rw [if_neg c]
    exact ⟨fun _ => by omega, fun _ => rfl⟩
theorem t_isSmall (ok : tw_ok G o ad) (ht : ∀ k, tp k < 256) (k : Nat) : wq_C G l 0 0 0 mX3_isSmall [.int (rd_sv tp n k)] (tw_h G o ad s h) (tw_qi G o ad h fun r s' => r = b2i (decide (k < n ∧ isSm (tp k) = true)) ∧ s' = s) := by
  have := ht k
  refine wq_C.of pn_X3 (Nat.le_of_ble_eq_true rfl) rfl (vX3_isSmall_0 ok ?_)
  unfold rd_sv isSm
  by_cases c : k < n
  · rw [if_pos c, nI_lit 97, nI_lit 122, nI_ltI (by omega) (by omega), nI_ltI (by omega) (by omega)]
    refine ⟨fun q => ⟨b2i_not ?_, rfl⟩, fun q => ⟨fun q2 => ⟨b2i_not ?_, rfl⟩, fun q2 => ⟨b2i_of ?_, rfl⟩⟩⟩
    · simp only [decide_eq_true_eq]; omega
    · simp only [decide_eq_true_eq]; omega
    · simp only [decide_eq_true_eq]; omega
  · rw [if_neg c]
    refine ⟨fun q => ⟨b2i_not (fun q => c q.1), rfl⟩, fun q => absurd (by decide) q⟩
theorem t_isDigit (ok : tw_ok G o ad) (ht : ∀ k, tp k < 256) (k : Nat) : wq_C G l 0 0 0 mX3_isDigit [.int (rd_sv tp n k)] (tw_h G o ad s h) (tw_qi G o ad h fun r s' => r = b2i (decide (k < n ∧ isDg (tp k) = true)) ∧ s' = s) := by
  have := ht k
  refine wq_C.of pn_X3 (Nat.le_of_ble_eq_true rfl) rfl (vX3_isDigit_0 ok ?_)
  unfold rd_sv isDg
  by_cases c : k < n
  · rw [if_pos c, nI_lit 48, nI_lit 57, nI_ltI (by omega) (by omega), nI_ltI (by omega) (by omega)]
    refine ⟨fun q => ⟨b2i_not ?_, rfl⟩, fun q => ⟨fun q2 => ⟨b2i_not ?_, rfl⟩, fun q2 => ⟨b2i_of ?_, rfl⟩⟩⟩
    · simp only [decide_eq_true_eq]; omega
    · simp only [decide_eq_true_eq]; omega
    · simp only [decide_eq_true_eq]; omega
  · rw [if_neg c]
    refine ⟨fun q => ⟨b2i_not (fun q => c q.1), rfl⟩, fun q => absurd (by decide) q⟩
/-- a token as the reference holds it -/
def rf_k (s : tw_S) (t : rd_K) : Prop := s.1 4 = nI t.2.1 ∧ s.1 5 = nI t.2.2.1 ∧ s.1 6 = nI t.1 ∧ (t.1 = 3 → s.1 7 = nI t.2.2.2.2) ∧ (t.1 = 2 → s.1 8 = nI t.2.2.2.1.length ∧ ∀ k x, t.2.2.2.1[k]? = some x → s.2.1 12 k = nI x)
/-- what a token's reading leaves as it was -/
def rf_n (s s' : tw_S) : Prop := (∀ k, k < 4 ∨ 8 < k → s'.1 k = s.1 k) ∧ ∀ k, k ≠ 12 → s'.2.1 k = s.2.1 k
theorem rf_n.refl (s : tw_S) : rf_n s s := ⟨fun _ _ => rfl, fun _ _ => rfl⟩
theorem rf_n.pi {s s' : tw_S} (hf : rf_n s s') {k : Nat} {x : Int32} (hk : 4 ≤ k ∧ k ≤ 8) : rf_n s (tw_pi s' k x) := ⟨fun j hj => by rw [pi_ne (by omega)]; exact hf.1 j hj, hf.2⟩
theorem rf_n.pa {s s' : tw_S} (hf : rf_n s s') {i : Nat} {x : Int32} : rf_n s (tw_pa s' 12 i x) := ⟨hf.1, fun j hj => by rw [pa_no hj]; exact hf.2 j hj⟩
theorem rf_t.mv {s s' : tw_S} (h : rf_t s tp n) (hf : rf_n s s') : rf_t s' tp n := by
  obtain ⟨h1, h2, h3, h4⟩ := h
  exact ⟨h1, by rw [hf.1 3 (by omega)]; exact h2, h3, by rw [hf.2 1 (by decide)]; exact h4⟩
theorem t_next (ok : tw_ok G o ad) (ht : rf_t s tp n) {k0 : Nat} (hk0 : k0 ≤ n) (h5 : s.1 5 = nI k0) : wq_C G l 1 0 0 mX3_next [.ref o] (tw_h G o ad s h) (tw_qv G o ad h fun s' => rf_n s s' ∧ rf_k s' (rd_next tp n k0)) := by
  have h900 := ht.1
  have h256 := ht.2.2.1
  generalize hQ : (fun s' => rf_n s s' ∧ rf_k s' (rd_next tp n k0)) = Q
  refine wq_C.of pn_X3 (Nat.le_of_ble_eq_true rfl) rfl (vX3_next_0 ok ?_)
  rw [h5]
  -- a word
  have word : ∀ m k j s', j + m = n → k ≤ j → rd_end isSm tp n k = rd_end isSm tp n j → rf_n s s' → s'.1 4 = nI k → s'.1 8 = nI (j - k) → (∀ i, i < min 8 (j - k) → s'.2.1 12 i = nI (tp (k + i))) → (∀ s', rf_n s s' → rf_k s' ((if 8 < rd_end isSm tp n k - k then 1 else 2), k, rd_end isSm tp n k, rd_let tp k (min 8 (rd_end isSm tp n k - k)), 0) → Q s') → tw_T G l o ad h 1 mX3_next (tw_qv G o ad h Q) 67 [some (.ref o), some (.int (nI j)), none, none] [] s' := by
    intro m
    induction m with
    | zero =>
      intro k j s' hj hkj he hf h4 h8 hl hfin
      obtain rfl : j = n := by omega
      have ej : rd_end isSm tp j j = j := rd_end_no (by omega)
      rw [ej] at he
      rw [he] at hfin
      have ht' := ht.mv hf
      refine vX3_next_67 ok (tw_ci.eq (by decide) (t_see ok ht' (by omega)) (tw_ci.eq (by decide) (t_isSmall ok h256 j) ?_))
      rw [b2i_0, decide_eq_false (by omega)]
      refine ⟨fun _ => ?_, fun c => absurd rfl c⟩
      unfold tw_pt
      dsimp only
      have e8 : (tw_pi s' 5 (nI j)).1 8 = nI (j - k) := h8
      rw [e8, nI_lit 8, nI_leI (by omega) (by omega)]
      have hlen : (rd_let tp k (min 8 (j - k))).length = min 8 (j - k) := by simp [rd_let]
      refine ⟨fun c => hfin _ ((hf.pi (by omega)).pi (by omega)) ?_, fun c => hfin _ ((hf.pi (by omega)).pi (by omega)) ?_⟩
      · refine ⟨h4, rfl, by rw [if_neg (by omega)]; rfl, fun q => ?_, fun _ => ⟨?_, fun i x hx => ?_⟩⟩
        · rw [if_neg (by omega)] at q; exact absurd q (fun q => by cases q)
        · show s'.1 8 = _
          rw [h8, hlen, Nat.min_eq_right (by omega)]
        · have hi := (List.getElem?_eq_some_iff.mp hx).1
          rw [hlen] at hi
          simp [rd_let, hi] at hx
          show s'.2.1 12 i = _
          rw [hl i hi, hx]
      · refine ⟨h4, rfl, by rw [if_pos (by omega)]; rfl, fun q => ?_, fun q => ?_⟩
        · rw [if_pos (by omega)] at q; exact absurd q (fun q => by cases q)
        · rw [if_pos (by omega)] at q; exact absurd q (fun q => by cases q)
    | succ m ih =>
      intro k j s' hj hkj he hf h4 h8 hl hfin
      have ht' := ht.mv hf
      refine vX3_next_67 ok (tw_ci.eq (by decide) (t_see ok ht' (by omega)) (tw_ci.eq (by decide) (t_isSmall ok h256 j) ?_))
      rw [b2i_0]
      refine ⟨fun c => ?_, fun c => ?_⟩
      · simp only [decide_eq_false_iff_not] at c
        have ej : rd_end isSm tp n j = j := rd_end_no c
        rw [ej] at he
        rw [he] at hfin
        unfold tw_pt
        dsimp only
        have e8 : (tw_pi s' 5 (nI j)).1 8 = nI (j - k) := h8
        rw [e8, nI_lit 8, nI_leI (by omega) (by omega)]
        have hlen : (rd_let tp k (min 8 (j - k))).length = min 8 (j - k) := by simp [rd_let]
        refine ⟨fun c => hfin _ ((hf.pi (by omega)).pi (by omega)) ?_, fun c => hfin _ ((hf.pi (by omega)).pi (by omega)) ?_⟩
        · refine ⟨h4, rfl, by rw [if_neg (by omega)]; rfl, fun q => ?_, fun _ => ⟨?_, fun i x hx => ?_⟩⟩
          · rw [if_neg (by omega)] at q; exact absurd q (fun q => by cases q)
          · show s'.1 8 = _
            rw [h8, hlen, Nat.min_eq_right (by omega)]
          · have hi := (List.getElem?_eq_some_iff.mp hx).1
            rw [hlen] at hi
            simp [rd_let, hi] at hx
            show s'.2.1 12 i = _
            rw [hl i hi, hx]
        · refine ⟨h4, rfl, by rw [if_pos (by omega)]; rfl, fun q => ?_, fun q => ?_⟩
          · rw [if_pos (by omega)] at q; exact absurd q (fun q => by cases q)
          · rw [if_pos (by omega)] at q; exact absurd q (fun q => by cases q)
      · simp only [decide_eq_false_iff_not, Decidable.not_not] at c
        have ej := rd_end_go c.1 c.2
        rw [ej] at he
        rw [h8, nI_lit 8, nI_leI (by omega) (by omega)]
        refine ⟨fun c8 => ?_, fun c8 => tw_ci.eq (by decide) (t_see ok ht' (by omega)) (tw_st_n (j - k) rfl (by show _ < 8; omega) ?_)⟩
        · unfold tw_pt
          rw [nI_1, nI_1]
          refine ih k (j + 1) _ (by omega) (by omega) he (hf.pi (by omega)) h4 (by rw [pi_eq, show j + 1 - k = j - k + 1 by omega]) (fun i hi => hl i (by omega)) hfin
        · unfold tw_pt
          have e8 : (tw_pa s' 12 (j - k) (rd_sv tp n j)).1 8 = nI (j - k) := h8
          rw [e8, nI_1, nI_1]
          refine ih k (j + 1) _ (by omega) (by omega) he (hf.pa.pi (by omega)) h4 (by rw [pi_eq, show j + 1 - k = j - k + 1 by omega]) (fun i hi => ?_) hfin
          show (tw_pa s' 12 (j - k) (rd_sv tp n j)).2.1 12 i = _
          by_cases e : i = j - k
          · subst e
            rw [pa_eq, show k + (j - k) = j by omega]
            unfold rd_sv; rw [if_pos c.1]
          · rw [pa_ne e]; exact hl i (by omega)
  -- a number
  have num : ∀ m k j s', j + m = n → k ≤ j → rd_end isDg tp n k = rd_end isDg tp n j → rf_n s s' → s'.1 4 = nI k → s'.1 7 = nI (rd_dig tp k (min 3 (j - k))) → (∀ s', rf_n s s' → rf_k s' ((if 3 < rd_end isDg tp n k - k then 1 else 3), k, rd_end isDg tp n k, [], rd_dig tp k (min 3 (rd_end isDg tp n k - k))) → Q s') → tw_T G l o ad h 1 mX3_next (tw_qv G o ad h Q) 152 [some (.ref o), some (.int (nI j)), none, some (.int (nI (j - k)))] [] s' := by
    intro m
    have stop : ∀ k j s', k ≤ j → j ≤ n → rd_end isDg tp n k = j → rf_n s s' → s'.1 4 = nI k → s'.1 7 = nI (rd_dig tp k (min 3 (j - k))) → (∀ s', rf_n s s' → rf_k s' ((if 3 < rd_end isDg tp n k - k then 1 else 3), k, rd_end isDg tp n k, [], rd_dig tp k (min 3 (rd_end isDg tp n k - k))) → Q s') → ((nI (j - k) ≤ 3 → Q (tw_pi (tw_pi s' 5 (nI j)) 6 3)) ∧ (¬ nI (j - k) ≤ 3 → Q (tw_pi (tw_pi s' 5 (nI j)) 6 1))) := by
      intro k j s' hkj hjn he hf h4 h7 hfin
      rw [he] at hfin
      rw [nI_lit 3, nI_leI (by omega) (by omega)]
      refine ⟨fun c => hfin _ ((hf.pi (by omega)).pi (by omega)) ?_, fun c => hfin _ ((hf.pi (by omega)).pi (by omega)) ?_⟩
      · refine ⟨h4, rfl, by rw [if_neg (by omega)]; rfl, fun _ => h7, fun q => ?_⟩
        rw [if_neg (by omega)] at q; exact absurd q (fun q => by cases q)
      · refine ⟨h4, rfl, by rw [if_pos (by omega)]; rfl, fun q => ?_, fun q => ?_⟩
        · rw [if_pos (by omega)] at q; exact absurd q (fun q => by cases q)
        · rw [if_pos (by omega)] at q; exact absurd q (fun q => by cases q)
    induction m with
    | zero =>
      intro k j s' hj hkj he hf h4 h7 hfin
      obtain rfl : j = n := by omega
      have ej : rd_end isDg tp j j = j := rd_end_no (by omega)
      rw [ej] at he
      have ht' := ht.mv hf
      refine vX3_next_152 ok (tw_ci.eq (by decide) (t_see ok ht' (by omega)) (tw_ci.eq (by decide) (t_isDigit ok h256 j) ?_))
      rw [b2i_0, decide_eq_false (by omega)]
      exact ⟨fun _ => stop k j s' hkj (by omega) he hf h4 h7 hfin, fun c => absurd rfl c⟩
    | succ m ih =>
      intro k j s' hj hkj he hf h4 h7 hfin
      have ht' := ht.mv hf
      refine vX3_next_152 ok (tw_ci.eq (by decide) (t_see ok ht' (by omega)) (tw_ci.eq (by decide) (t_isDigit ok h256 j) ?_))
      rw [b2i_0]
      refine ⟨fun c => ?_, fun c => ?_⟩
      · simp only [decide_eq_false_iff_not] at c
        have ej : rd_end isDg tp n j = j := rd_end_no c
        rw [ej] at he
        exact stop k j s' hkj (by omega) he hf h4 h7 hfin
      · simp only [decide_eq_false_iff_not, Decidable.not_not] at c
        have ej := rd_end_go c.1 c.2
        rw [ej] at he
        have hdg := c.2
        unfold isDg at hdg
        simp only [decide_eq_true_eq] at hdg
        rw [nI_lit 3, nI_leI (by omega) (by omega)]
        refine ⟨fun c3 => ?_, fun c3 => tw_ci.eq (by decide) (t_see ok ht' (by omega)) ?_⟩
        · rw [nI_1, nI_1, show j - k + 1 = j + 1 - k by omega]
          refine ih k (j + 1) s' (by omega) (by omega) he hf h4 ?_ hfin
          rw [h7, Nat.min_eq_left (by omega), Nat.min_eq_left (by omega)]
        · unfold tw_pt
          rw [nI_1, nI_1, show j - k + 1 = j + 1 - k by omega]
          refine ih k (j + 1) _ (by omega) (by omega) he (hf.pi (by omega)) h4 ?_ hfin
          rw [pi_eq, h7, Nat.min_eq_right (by omega), Nat.min_eq_right (by omega), show j + 1 - k = (j - k) + 1 by omega]
          simp only [rd_dig]
          unfold rd_sv
          rw [if_pos c.1, show k + (j - k) = j by omega, nI_lit 10, nI_mul, nI_add, nI_iI, nI_iI, iI_lit 48, iI_sub]
          congr 1
          omega
  have skip : ∀ m k, k + m = n → k0 ≤ k → rd_end isSp tp n k0 = rd_end isSp tp n k → tw_T G l o ad h 1 mX3_next (tw_qv G o ad h Q) 5 [some (.ref o), some (.int (nI k)), none, none] [] s := by
    intro m
    have here : ∀ k, k0 ≤ k → k ≤ n → rd_end isSp tp n k0 = k → ¬ rd_sv tp n k = 32 → tw_T G l o ad h 1 mX3_next (tw_qv G o ad h Q) 5 [some (.ref o), some (.int (nI k)), none, none] [] s := by
      intro k hk hkn he hsp
      have tok : rd_next tp n k0 = rd_tok tp n k := by unfold rd_next; rw [he]
      have fin : ∀ s', rf_n s s' → rf_k s' (rd_tok tp n k) → Q s' := by
        intro s' h1 h2; subst hQ; rw [tok]; exact ⟨h1, h2⟩
      refine vX3_next_5 ok (tw_ci.eq (by decide) (t_see ok ht (by omega)) ⟨fun _ => ?_, fun c => absurd c hsp⟩)
      unfold tw_pt
      have f1 : rf_n s (tw_pi s 4 (nI k)) := (rf_n.refl s).pi (by omega)
      refine tw_ci.eq (by decide) (t_see ok (ht.mv f1) (by omega)) ?_
      have f3 : rf_n s (tw_pi (tw_pi (tw_pi s 4 (nI k)) 8 0) 7 0) := (f1.pi (by omega)).pi (by omega)
      rw [sv_end h256 k]
      refine ⟨fun c => tw_ci.eq (by decide) (t_isSmall ok h256 k) ?_, fun c => fin _ ((f3.pi (by omega)).pi (by omega)) ?_⟩
      · have hlt : k < n := by omega
        rw [b2i_0]
        refine ⟨fun c1 => tw_ci.eq (by decide) (t_isDigit ok h256 k) ?_, fun c1 => ?_⟩
        · simp only [decide_eq_false_iff_not] at c1
          have c1 : ¬ isSm (tp k) = true := fun q => c1 ⟨hlt, q⟩
          rw [b2i_0]
          refine ⟨fun c2 => ?_, fun c2 => ?_⟩
          · simp only [decide_eq_false_iff_not] at c2
            have c2 : ¬ isDg (tp k) = true := fun q => c2 ⟨hlt, q⟩
            have et : rd_tok tp n k = ((if tp k = 59 ∨ tp k = 44 ∨ tp k = 45 then tp k else 1), k, k + 1, [], tp k) := by
              unfold rd_tok; rw [if_neg (by omega), if_neg c1, if_neg c2]
            have esv : rd_sv tp n k = nI (tp k) := by unfold rd_sv; rw [if_pos hlt]
            have h2 := h256 k
            have e59 : nI (tp k) = 59 ↔ tp k = 59 := nI_eq (b := 59) (by omega) (by omega)
            have e44 : nI (tp k) = 44 ↔ tp k = 44 := nI_eq (b := 44) (by omega) (by omega)
            have e45 : nI (tp k) = 45 ↔ tp k = 45 := nI_eq (b := 45) (by omega) (by omega)
            rw [nI_1, esv, e59, e44, e45]
            have f5 := f3.pi (k := 5) (x := nI (k + 1)) (by omega)
            have sg : ∀ x : Nat, (if tp k = 59 ∨ tp k = 44 ∨ tp k = 45 then tp k else 1) = x → x ≠ 2 → x ≠ 3 → Q (tw_pi (tw_pi (tw_pi (tw_pi (tw_pi s 4 (nI k)) 8 0) 7 0) 5 (nI (k + 1))) 6 (nI x)) := by
              intro x hx h2 h3
              refine fin _ (f5.pi (by omega)) ?_
              rw [et, hx]
              exact ⟨rfl, rfl, rfl, fun q => absurd q h3, fun q => absurd q h2⟩
            refine ⟨fun q => ?_, fun q => ⟨fun q2 => ?_, fun q2 => ⟨fun q3 => ?_, fun q3 => ?_⟩⟩⟩
            · exact sg (tp k) (if_pos (Or.inl q)) (by omega) (by omega)
            · exact sg (tp k) (if_pos (Or.inr (Or.inl q2))) (by omega) (by omega)
            · exact sg 1 (if_neg (by omega)) (by omega) (by omega)
            · exact sg (tp k) (if_pos (Or.inr (Or.inr q3))) (by omega) (by omega)
          · simp only [decide_eq_false_iff_not, Decidable.not_not] at c2
            have et : rd_tok tp n k = ((if 3 < rd_end isDg tp n k - k then 1 else 3), k, rd_end isDg tp n k, [], rd_dig tp k (min 3 (rd_end isDg tp n k - k))) := by
              unfold rd_tok; rw [if_neg (by omega), if_neg c1, if_pos c2.2]
            have := num (n - k) k k _ (by omega) (Nat.le_refl k) rfl f3 rfl (by rw [Nat.sub_self]; rfl) (fun s' h1 h2 => fin s' h1 (by rw [et]; exact h2))
            rw [Nat.sub_self] at this
            exact this
        · simp only [decide_eq_false_iff_not, Decidable.not_not] at c1
          have et : rd_tok tp n k = ((if 8 < rd_end isSm tp n k - k then 1 else 2), k, rd_end isSm tp n k, rd_let tp k (min 8 (rd_end isSm tp n k - k)), 0) := by
            unfold rd_tok; rw [if_neg (by omega), if_pos c1.2]
          exact word (n - k) k k _ (by omega) (Nat.le_refl k) rfl f3 rfl (by rw [Nat.sub_self]; rfl) (fun i hi => by omega) (fun s' h1 h2 => fin s' h1 (by rw [et]; exact h2))
      · have et : rd_tok tp n k = (0, k, k, [], 0) := by unfold rd_tok; rw [if_pos c]
        rw [et]
        exact ⟨rfl, rfl, rfl, fun q => (by cases q), fun q => (by cases q)⟩
    induction m with
    | zero =>
      intro k hk hk0 he
      obtain rfl : k = n := by omega
      have ek : rd_end isSp tp k k = k := rd_end_no (by omega)
      rw [ek] at he
      exact here k hk0 (Nat.le_refl _) he (fun q => by rw [sv_sp h256] at q; omega)
    | succ m ih =>
      intro k hk hk0 he
      by_cases c : k < n ∧ isSp (tp k) = true
      · have ek := rd_end_go c.1 c.2
        rw [ek] at he
        refine vX3_next_5 ok (tw_ci.eq (by decide) (t_see ok ht (by omega)) ⟨fun q => absurd ((sv_sp h256 k).mpr c) q, fun _ => ?_⟩)
        rw [nI_1]
        exact ih (k + 1) (by omega) (by omega) he
      · have ek : rd_end isSp tp n k = k := rd_end_no c
        rw [ek] at he
        exact here k hk0 (by omega) he (fun q => c ((sv_sp h256 k).mp q))
  exact skip (n - k0) k0 (by omega) (Nat.le_refl _) rfl
end TW27
