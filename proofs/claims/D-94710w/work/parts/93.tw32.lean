/-! CONTRACTS of the reference: a set's line -/
set_option maxRecDepth 100000
def c_nm (a : Nat → Int32) (q : rd_Q) : Prop := a 49 = nI q.2.1 ∧ a 50 = nI q.2.2.1.length ∧ nm_a a 0 q.2.2.1 ∧ nm_a a 6 q.2.2.2.1 ∧ (∀ i, q.2.2.1.length ≤ i → i < 6 → a (211 + i) = 0) ∧ (∀ i, q.2.2.2.1.length ≤ i → i < 9 → a (217 + i) = 0) ∧ a 51 = nI q.2.2.2.1.length
def c_ln (a : Nat → Int32) (q : rd_Q) : Prop := a 52 = nI q.2.2.2.2.2.1.length ∧ (∀ n, n < q.2.2.2.2.2.1.length → (∀ k, k < 3 → a (53 + 3 * n + k) = nI (zs_pt (zs_li (rd_B q) n) k)) ∧ a (77 + n) = nI (zs_li (rd_B q) n).2.2.2) ∧ ∀ n, q.2.2.2.2.2.1.length ≤ n → n < 8 → a (77 + n) = 0
def c_ry (a : Nat → Int32) (q : rd_Q) : Prop := a 85 = nI q.2.2.2.2.2.2.1.length ∧ ∀ n, n < q.2.2.2.2.2.2.1.length → ∀ k, k < 4 → a (86 + 4 * n + k) = iI (zs_ra (rd_B q) n k)
def c_rn (a : Nat → Int32) (q : rd_Q) : Prop := a 158 = nI q.2.2.2.2.2.2.2.length ∧ ∀ u, u < q.2.2.2.2.2.2.2.length → a (159 + u) = nI (zs_ru (rd_B q) u).length ∧ ∀ n x, (zs_ru (rd_B q) u)[n]? = some x → a (163 + 6 * u + n) = nI x.1 ∧ a (187 + 6 * u + n) = nI x.2
theorem tf_iff {a : Nat → Int32} {q : rd_Q} : tf a q ↔ c_nm a q ∧ ta_tab a q.2.2.2.2.1 ∧ c_ln a q ∧ c_ry a q ∧ c_rn a q := by
  constructor
  · rintro ⟨h1, h2, h3, h4, h5, h6, h7, ⟨y1, y2, y3, y4, y5, y6, y7⟩, h9⟩
    exact ⟨⟨h1, h2, h3, h4, h5, h6, y1⟩, h7, ⟨y2, y3, h9⟩, ⟨y4, y5⟩, ⟨y6, y7⟩⟩
  · rintro ⟨⟨h1, h2, h3, h4, h5, h6, y1⟩, h7, ⟨y2, y3, h9⟩, ⟨y4, y5⟩, ⟨y6, y7⟩⟩
    exact ⟨h1, h2, h3, h4, h5, h6, h7, ⟨y1, y2, y3, y4, y5, y6, y7⟩, h9⟩
theorem c_nm.cong {a a' : Nat → Int32} {q : rd_Q} (h : c_nm a q) (e : ∀ p, (49 ≤ p ∧ p < 52) ∨ 211 ≤ p → a' p = a p) : c_nm a' q := by
  obtain ⟨h1, h2, h3, h4, h5, h6, h7⟩ := h
  refine ⟨by rw [e 49 (by omega)]; exact h1, by rw [e 50 (by omega)]; exact h2, fun i w hw => ⟨by rw [e _ (by omega)]; exact (h3 i w hw).1, fun k x hx => by rw [e _ (by omega)]; exact (h3 i w hw).2 k x hx⟩, fun i w hw => ⟨by rw [e _ (by omega)]; exact (h4 i w hw).1, fun k x hx => by rw [e _ (by omega)]; exact (h4 i w hw).2 k x hx⟩, fun i a b => by rw [e _ (by omega)]; exact h5 i a b, fun i a b => by rw [e _ (by omega)]; exact h6 i a b, by rw [e 51 (by omega)]; exact h7⟩
theorem c_ln.cong {a a' : Nat → Int32} {q : rd_Q} (hp : pok q) (h : c_ln a q) (e : ∀ p, 52 ≤ p → p < 85 → a' p = a p) : c_ln a' q := by
  have b8 : q.2.2.2.2.2.1.length ≤ 8 := hp.2.2.2.2.2.1.2.1
  obtain ⟨h1, h2, h3⟩ := h
  exact ⟨by rw [e 52 (by omega) (by omega)]; exact h1, fun n hn => ⟨fun k hk => by rw [e _ (by omega) (by omega)]; exact (h2 n hn).1 k hk, by rw [e _ (by omega) (by omega)]; exact (h2 n hn).2⟩, fun n x y => by rw [e _ (by omega) (by omega)]; exact h3 n x y⟩
theorem c_ry.cong {a a' : Nat → Int32} {q : rd_Q} (hp : pok q) (h : c_ry a q) (e : ∀ p, 85 ≤ p → p < 158 → a' p = a p) : c_ry a' q := by
  have r18 : q.2.2.2.2.2.2.1.length ≤ 18 := hp.2.2.2.2.2.1.2.2.2.1
  obtain ⟨h1, h2⟩ := h
  exact ⟨by rw [e 85 (by omega) (by omega)]; exact h1, fun n hn k hk => by rw [e _ (by omega) (by omega)]; exact h2 n hn k hk⟩
theorem c_rn.cong {a a' : Nat → Int32} {q : rd_Q} (hp : pok q) (h : c_rn a q) (e : ∀ p, 158 ≤ p → p < 211 → a' p = a p) : c_rn a' q := by
  have u4 : q.2.2.2.2.2.2.2.length ≤ 4 := hp.2.2.2.2.2.1.2.2.2.2.2.1
  obtain ⟨h1, h2⟩ := h
  refine ⟨by rw [e 158 (by omega) (by omega)]; exact h1, fun u hu => ⟨by rw [e _ (by omega) (by omega)]; exact (h2 u hu).1, fun n x hx => ?_⟩⟩
  have hn := (List.getElem?_eq_some_iff.mp hx).1
  have h6 := (hp.2.2.2.2.2.1.2.2.2.2.2.2 _ (ru_mem (B := rd_B q) hu)).1
  rw [e _ (by omega) (by omega), e _ (by omega) (by omega)]
  exact (h2 u hu).2 n x hx
section TW32
variable {G : wq_G} {l : Launch} {o : Nat} {ad : Nat → Nat} {h : wq_H} {s s0 : tw_S} {tp : Nat → Nat} {n : Nat} {q : rd_Q}
theorem rf_f.pa {p : Nat} {x : Int32} (hf : rf_f s0 s) : rf_f (tw_pa s0 16 p x) (tw_pa s 16 p x) := by
  refine ⟨hf.1, fun k hk => ?_⟩
  by_cases c : k = 16
  · subst c
    funext j
    by_cases e : j = p
    · subst e; rw [pa_eq, pa_eq]
    · rw [pa_ne e, pa_ne e, hf.2 16 hk]
  · rw [pa_no c, pa_no c]; exact hf.2 k hk
theorem rf_e.pa {p : Nat} {x : Int32} {e : Nat × Nat} (he : rf_e s0 s e) : rf_e (tw_pa s0 16 p x) (tw_pa s 16 p x) e := ⟨he.1.pa, he.2⟩
/-- a place is written that holds nothing yet -/
theorem rf_r.free {p : Nat} (hr : rf_r s0 tp n s q) (hp : ¬ used q p) (x : Int32) : rf_r (tw_pa s0 16 p x) tp n (tw_pa s 16 p x) q := by
  obtain ⟨g1, g2, g3, g4, g5, g6, g7, g8, g9⟩ := hr
  refine ⟨g1.pa, g2, g3, g4, ⟨g5.1, g5.2.1, g5.2.2.1, by rw [pa_no (by decide)]; exact g5.2.2.2⟩, ?_, g7, tf_cong g9 g8 fun j hj => pa_ne (fun e => hp (by rw [← e]; exact hj)), g9⟩
  unfold rf_k at *
  rw [pa_no (by decide)]
  exact g6
theorem rf_y.pa {p : Nat} {x : Int32} {X : rd_X rd_Q} (hy : rf_y (tw_pa s0 16 p x) tp n s X) : rf_y s0 tp n s X := by
  rw [pa_is] at hy
  exact hy.up
theorem rf_r.a16 (hr : rf_r s0 tp n s q) : s.2.1 16 = s0.2.1 16 := hr.1.2 16 (by decide)
theorem rf_e.a16 {e : Nat × Nat} (hr : rf_e s0 s e) : s.2.1 16 = s0.2.1 16 := hr.1.2 16 (by decide)
/-- a set more -/
def rd_ps2 (a : Nat) (b : Option Nat) (x : (Nat → Nat) × rd_Q) : rd_Q := (x.2.1, x.2.2.1, x.2.2.2.1, x.2.2.2.2.1, x.2.2.2.2.2.1 ++ [(a, b, x.1, fun _ => 0)], x.2.2.2.2.2.2)
theorem pok_set {a : Nat} {b : Option Nat} {t : Nat → Nat} (hp : pok q) (h8 : q.2.2.2.2.1.length < 8) (h0 : q.2.1 ≠ 0) (he : e_ok q.2.2.1.length q.2.1 (a, b, t, fun _ => 0)) : pok (rd_ps2 a b (t, q)) := by
  obtain ⟨p1, p2, p3, p4, p5, p6, p7⟩ := hp
  refine ⟨p1, p2, p3, fun e => absurd e h0, ⟨?_, fun e he' => ?_⟩, p6, p7⟩
  · show (q.2.2.2.2.1 ++ [_]).length ≤ 8
    rw [List.length_append]; show _ + 1 ≤ 8; omega
  · have he' : e ∈ q.2.2.2.2.1 ++ [(a, b, t, fun _ => 0)] := he'
    rw [List.mem_append, List.mem_singleton] at he'
    rcases he' with he' | rfl
    · exact p5.2 e he'
    · exact he
def sx_n (t : Nat → Nat) : Nat → Nat
  | 0 => 0
  | k + 1 => sx_n t k + t k
theorem sx_n_c {t t' : Nat → Nat} {k : Nat} (h : ∀ j, j < k → t j = t' j) : sx_n t k = sx_n t' k := by
  induction k with
  | zero => rfl
  | succ k ih => simp only [sx_n]; rw [ih (fun j hj => h j (by omega)), h k (by omega)]
theorem t_sets (ok : tw_ok G o ad) {a : Nat} {b : Option Nat} {many : Nat} (hmany : many = if b = none then 2 else 4) {S : Nat} (hS : S < 8) : ∀ (m oo sum : Nat) (t : Nat → Nat) (s0 s : tw_S) (q : rd_Q) (Q : tw_S → Prop), oo + m = many → rf_r s0 tp n s q → q.2.2.2.2.1.length = S → q.2.1 ≠ 0 → a < q.2.2.1.length → (∀ x, b = some x → x < q.2.2.1.length ∧ x ≠ a) → s.2.1 16 (1 + S) = nI a → s.2.1 16 (9 + S) = ta_sec b → (∀ j, j < oo → s.2.1 16 (17 + 4 * S + j) = nI (t j)) → sum = sx_n t oo → sum ≤ 60 * oo → (oo = many → sum = q.2.1) → (∀ s', rf_y s0 tp n s' ((rd_ts tp n many q.2.1 m oo sum t q).bind (fun x => .ok (rd_ps2 a b x))) → Q s') → tw_T G l o ad h 8 mX3_setLine (tw_qv G o ad h Q) 142 [some (.ref o), some (.int (nI S)), none, some (.int (nI many)), some (.int (nI sum)), some (.int (nI oo)), none, none] [] s := by
  have hm4 : many = 2 ∨ many = 4 := by rw [hmany]; split <;> omega
  -- behind a fault
  have dead : ∀ (s0 s : tw_S) (e : Nat × Nat) (Q : tw_S → Prop) (x4 x5 : Int32), rf_e s0 s e → (∀ s', rf_y s0 tp n s' (.error e) → Q s') → tw_T G l o ad h 8 mX3_setLine (tw_qv G o ad h Q) 142 [some (.ref o), some (.int (nI S)), none, some (.int (nI many)), some (.int x4), some (.int x5), none, none] [] s := by
    intro s0 s e Q x4 x5 he hQ
    have n0 : ∀ s, s.1 13 = 1 → ¬ (s : tw_S).1 13 = 0 := fun s h1 c => absurd (h1.symm.trans c) (by decide)
    have fin : Q s := hQ s (rf_x.y (X := .error e) he)
    refine vX3_setLine_142 ok ⟨fun _ => ⟨fun _ => fin, fun c => absurd c (n0 s he.2.1)⟩, fun _ => ⟨fun _ => ⟨fun c => absurd c (n0 s he.2.1), fun _ => fin⟩, fun _ => tw_cv.use (by decide) (t_mustComma (tp := tp) (n := n) ok (X := .error e) he) fun s' hs' => ?_⟩⟩
    have hs' : rf_e s0 s' e := hs'
    exact ⟨fun c => absurd c (n0 s' hs'.2.1), fun _ => hQ s' (rf_x.y (X := .error e) hs')⟩
  intro m
  induction m with
  | zero =>
    intro oo sum t s0 s q Q hom hr hSq h0 ha hb g1 g9 gt hsum hle hof hQ
    obtain rfl : oo = many := by omega
    have hp := hr.2.2.2.2.2.2.2.2
    have htf := tf_iff.mp hr.2.2.2.2.2.2.2.1
    have e0 : s.2.1 16 0 = nI S := by rw [← hSq]; exact htf.2.1.1
    refine vX3_setLine_142 ok ⟨fun _ => ⟨fun c => absurd hr.2.1 c, fun _ => tw_ld_n 0 rfl (by decide) (tw_st_n 0 rfl (by decide) ?_)⟩, fun c => absurd (Int32.le_refl _) c⟩
    rw [e0, nI_1]
    have hsumq : sx_n t oo = q.2.1 := by rw [← hsum]; exact hof rfl
    have he : e_ok q.2.2.1.length q.2.1 (a, b, t, fun _ => 0) := by
      refine ⟨ha, hb, ?_, fun _ _ => Nat.zero_le _⟩
      cases b with
      | none =>
        have : oo = 2 := by rw [hmany]; rfl
        rw [this] at hsumq
        simp only [sx_n] at hsumq
        show t 0 + t 1 = q.2.1
        omega
      | some x =>
        have : oo = 4 := by rw [hmany]; rfl
        rw [this] at hsumq
        simp only [sx_n] at hsumq
        show t 0 + t 1 + t 2 + t 3 = q.2.1
        omega
    refine hQ _ ⟨(tw_pa s 16 0 (nI (S + 1))).2.1 16, ?_⟩
    show rf_r _ tp n _ (rd_ps2 a b (t, q))
    have hp2 := pok_set (t := t) hp (by omega) h0 he
    refine hr.put rfl (fun k hk => pa_no hk) rfl ?_ hp2
    have fe : ∀ p, p ≠ 0 → (tw_pa s 16 0 (nI (S + 1))).2.1 16 p = s.2.1 16 p := fun p hp => pa_ne hp
    obtain ⟨c1, c2, c3, c4, c5⟩ := htf
    refine tf_iff.mpr ⟨c1.cong (fun p hp => fe p (by omega)), ⟨?_, fun k e hk => ?_⟩, c_ln.cong hp2 c3 (fun p h1 _ => fe p (by omega)), c_ry.cong hp2 c4 (fun p h1 _ => fe p (by omega)), c_rn.cong hp2 c5 (fun p h1 _ => fe p (by omega))⟩
    · show _ = nI (q.2.2.2.2.1 ++ [_]).length
      rw [pa_eq, List.length_append, hSq]; rfl
    · have hk : (q.2.2.2.2.1 ++ [(a, b, t, fun _ => 0)])[k]? = some e := hk
      by_cases ck : k < q.2.2.2.2.1.length
      · rw [List.getElem?_append_left ck] at hk
        obtain ⟨y1, y2, y3⟩ := c2.2 k e hk
        exact ⟨by rw [fe _ (by omega)]; exact y1, by rw [fe _ (by omega)]; exact y2, fun x hx => by rw [fe _ (by omega)]; exact y3 x hx⟩
      · have hl := (List.getElem?_eq_some_iff.mp hk).1
        rw [List.length_append] at hl
        have hl : k < q.2.2.2.2.1.length + 1 := hl
        obtain rfl : k = S := by omega
        rw [← hSq, List.getElem?_append_right (Nat.le_refl _), Nat.sub_self] at hk
        simp only [List.getElem?_cons_zero, Option.some.injEq] at hk
        subst hk
        refine ⟨by rw [fe _ (by omega)]; exact g1, by rw [fe _ (by omega)]; exact g9, fun x hx => ?_⟩
        rw [fe _ (by omega)]
        refine gt x ?_
        rw [hmany]
        have hx : x < zs_out (a, b, t, fun _ => 0) := hx
        unfold zs_out at hx
        cases b
        · exact hx
        · exact hx
  | succ m ih =>
    intro oo sum t s0 s q Q hom hr hSq h0 ha hb g1 g9 gt hsum hle hof hQ
    -- the number, once the comma is gone over
    have num : ∀ (s1 : tw_S) (q1 : rd_Q), rf_r s0 tp n s1 q1 → q1.2 = q.2 → (∀ s', rf_y s0 tp n s' ((if q1.1.1 = 3 ∧ q1.1.2.2.2.2 ≤ 60 ∧ oo + 1 = many ∧ sum + q1.1.2.2.2.2 ≠ q.2.1 then rd_err 4 q1 else (rd_no tp n 0 60 q1).bind (fun x => rd_ts tp n many q.2.1 m (oo + 1) (sum + x.1) (fun j => if j = oo then x.1 else t j) x.2)).bind (fun x => .ok (rd_ps2 a b x))) → Q s') → (¬ nI oo = nI many - 1 → tw_T G l o ad h 8 mX3_setLine (tw_qv G o ad h Q) 199 [some (.ref o), some (.int (nI S)), none, some (.int (nI many)), some (.int (nI sum)), some (.int (nI oo)), none, none] [.int 0] s1) ∧ (nI oo = nI many - 1 → (¬ s1.1 6 = 3 → tw_T G l o ad h 8 mX3_setLine (tw_qv G o ad h Q) 199 [some (.ref o), some (.int (nI S)), none, some (.int (nI many)), some (.int (nI sum)), some (.int (nI oo)), none, none] [.int 0] s1) ∧ (s1.1 6 = 3 → tw_ci G l o ad h 8 mX3_within [.int (s1.1 7), .int 0, .int 60] s1 (fun y4 s3 => (y4 = 0 → tw_T G l o ad h 8 mX3_setLine (tw_qv G o ad h Q) 199 [some (.ref o), some (.int (nI S)), none, some (.int (nI many)), some (.int (nI sum)), some (.int (nI oo)), none, none] [.int 0] s3) ∧ (¬ y4 = 0 → tw_T G l o ad h 8 mX3_setLine (tw_qv G o ad h Q) 199 [some (.ref o), some (.int (nI S)), none, some (.int (nI many)), some (.int (nI sum)), some (.int (nI oo)), none, none] [.int 1] s3)))) := by
      intro s1 q1 hr1 hq1 hQ1
      obtain ⟨h1, h2, h3, h4, h5, h6, h7, h8, h9⟩ := id hr1
      have em : nI oo = nI many - 1 ↔ oo + 1 = many := by rw [nI_sub1 (by omega), nI_eq (by omega) (by omega)]; omega
      have e3 : nI q1.1.1 = 3 ↔ q1.1.1 = 3 := nI_eq (b := 3) (by have := h7.1; omega) (by omega)
      have eS : s1.2.1 16 = s.2.1 16 := hr1.a16.trans hr.a16.symm
      have i17 : (17 : Int32) + 4 * nI S + nI oo = nI (17 + 4 * S + oo) := by rw [nI_lit 17, nI_lit 4, nI_mul, nI_add, nI_add]
      -- the number itself, where the sum is as it must be or isn't asked
      have go : ¬ (q1.1.1 = 3 ∧ q1.1.2.2.2.2 ≤ 60 ∧ oo + 1 = many ∧ sum + q1.1.2.2.2.2 ≠ q.2.1) → tw_ci G l o ad h 8 mX3_number [.ref o, .int 0, .int 60] s1 (fun y2 s1 => tw_st s1 16 (17 + 4 * nI S + nI oo) y2 (fun s3 => tw_T G l o ad h 8 mX3_setLine (tw_qv G o ad h Q) 142 [some (.ref o), some (.int (nI S)), none, some (.int (nI many)), some (.int (nI sum + y2)), some (.int (nI oo + 1)), none, none] [] s3)) := by
        intro hno
        rw [if_neg hno] at hQ1
        refine tw_ci.use (by decide) (t_number ok (X := .ok q1) hr1 (lo := 0) (hi := 60) (by decide) (by decide)) fun y s2 h2' => ?_
        have h2' : rf_v s0 tp n y s2 (rd_no tp n 0 60 q1) := h2'
        refine tw_st_n _ i17 (by show _ < 346; omega) ?_
        cases eV : rd_no tp n 0 60 q1 with
        | error e =>
          rw [eV] at h2' hQ1
          have h2' : rf_e s0 s2 e := h2'
          exact dead _ _ e Q _ _ h2'.pa (fun s' hs' => hQ1 s' hs'.pa)
        | ok x =>
          rw [eV] at h2' hQ1
          obtain ⟨rfl, hr2⟩ : y = nI x.1 ∧ rf_r s0 tp n s2 x.2 := h2'
          obtain ⟨r1, r2, r3⟩ := no_range eV
          have hx2 : x.2.2 = q.2 := by rw [r3]; exact hq1
          have eS2 : s2.2.1 16 = s.2.1 16 := hr2.a16.trans hr.a16.symm
          rw [nI_add, nI_1]
          have nu : ¬ used x.2 (17 + 4 * S + oo) := by
            unfold used
            have : x.2.2.2.2.2.1.length = S := by rw [hx2]; exact hSq
            omega
          have kind3 : q1.1.1 = 3 ∧ x.1 = q1.1.2.2.2.2 := by
            unfold rd_no at eV
            by_cases c3 : q1.1.1 = 3
            · rw [if_pos c3] at eV
              split at eV
              · cases eV; exact ⟨c3, rfl⟩
              · cases eV
            · rw [if_neg c3] at eV; cases eV
          refine ih (oo + 1) (sum + x.1) (fun j => if j = oo then x.1 else t j) _ _ x.2 Q (by omega) (hr2.free nu (nI x.1)) (by rw [hx2]; exact hSq) (by rw [hx2]; exact h0) (by rw [hx2]; exact ha) (by rw [hx2]; exact hb) (by rw [pa_ne (by omega), eS2]; exact g1) (by rw [pa_ne (by omega), eS2]; exact g9) (fun j hj => ?_) ?_ (by omega) (fun e => ?_) (fun s' hs' => hQ1 s' ?_)
          · by_cases c : j = oo
            · subst c; rw [pa_eq, if_pos rfl]
            · rw [pa_ne (by omega), if_neg c, eS2]; exact gt j (by omega)
          · simp only [sx_n]
            rw [if_pos trivial, hsum]
            congr 1
            exact sx_n_c fun j hj => by rw [if_neg (by omega)]
          · rw [hx2, kind3.2]
            apply Decidable.byContradiction
            intro c
            exact hno ⟨kind3.1, by rw [← kind3.2]; exact r2, e, c⟩
          · have := hs'.pa
            rw [show x.2.2.1 = q.2.1 from congrArg (fun z => z.1) hx2] at this
            exact this
      have go0 : ¬ (q1.1.1 = 3 ∧ q1.1.2.2.2.2 ≤ 60 ∧ oo + 1 = many ∧ sum + q1.1.2.2.2.2 ≠ q.2.1) → tw_T G l o ad h 8 mX3_setLine (tw_qv G o ad h Q) 199 [some (.ref o), some (.int (nI S)), none, some (.int (nI many)), some (.int (nI sum)), some (.int (nI oo)), none, none] [.int 0] s1 := fun hno => vX3_setLine_199 ok ⟨fun _ => go hno, fun c => absurd rfl c⟩
      rw [em, h6.2.2.1, e3]
      refine ⟨fun c => go0 (fun q => c q.2.2.1), fun c => ⟨fun c2 => go0 (fun q => c2 q.1), fun c2 => tw_ci.eq (by decide) (t_within ok 0 (s1.1 7) 0 60) ?_⟩⟩
      have e7 := h6.2.2.2.1 c2
      have n7 := h7.2.2.2.2 c2
      have ei : ((0 : Int32) ≤ s1.1 7 ∧ s1.1 7 ≤ 60) ↔ q1.1.2.2.2.2 ≤ 60 := by
        rw [e7, nI_lit 60, nI_leI (by omega) (by omega)]
        exact ⟨fun q => q.2, fun q => ⟨nI_pos' (by omega), q⟩⟩
      rw [b2i_0]
      refine ⟨fun c3 => go0 (fun q => ?_), fun c3 => ?_⟩
      · simp only [decide_eq_false_iff_not] at c3
        exact c3 (ei.mpr q.2.1)
      · simp only [decide_eq_false_iff_not, Decidable.not_not] at c3
        have c3 := ei.mp c3
        refine vX3_setLine_199 ok ⟨fun c => absurd c (by decide), fun _ => tw_ld_n 49 rfl (by decide) ?_⟩
        have e49 : s1.2.1 16 49 = nI q.2.1 := by
          have := h8.1
          rw [show q1.2.1 = q.2.1 from congrArg (fun z => z.1) hq1] at this
          exact this
        have p60 : q.2.1 ≤ 60 := by have := h9.1; rw [show q1.2.1 = q.2.1 from congrArg (fun z => z.1) hq1] at this; exact this
        rw [e49, e7, nI_add, nI_eq (by omega) (by omega)]
        refine ⟨fun c4 => go (fun q => q.2.2.2 c4), fun c4 => tw_cv.use (by decide) (t_wrong ok hr1 4) fun s8 h8' => tw_ci.use (by decide) (t_number (tp := tp) (n := n) ok (X := .error (4, q1.1.2.1)) h8' (lo := 0) (hi := 60) (by decide) (by decide)) fun y s9 h9' => tw_st_n _ i17 (by show _ < 346; omega) ?_⟩
        have h9' : rf_e s0 s9 (4, q1.1.2.1) := h9'
        rw [if_pos ⟨c2, c3, c, c4⟩] at hQ1
        exact dead _ _ _ Q _ _ h9'.pa (fun s' hs' => hQ1 s' hs'.pa)
    simp only [rd_ts] at hQ
    refine vX3_setLine_142 ok ⟨fun c => ?_, fun _ => ⟨fun c => ⟨fun _ => ?_, fun c => absurd hr.2.1 c⟩, fun c => tw_cv.use (by decide) (t_mustComma ok (X := .ok q) hr) fun s5 h5 => ?_⟩⟩
    · rw [nI_leI (by omega) (by omega)] at c
      omega
    · have c : nI oo ≤ nI 0 := c
      rw [nI_leI (by omega) (by omega)] at c
      obtain rfl : oo = 0 := by omega
      exact num s q hr rfl (fun s' hs' => hQ s' (by rw [if_pos rfl]; exact hs'))
    · have c : ¬ nI oo ≤ nI 0 := c
      rw [nI_leI (by omega) (by omega)] at c
      have h5 : rf_x s0 tp n s5 (rd_cm tp n q) := h5
      rw [if_neg (by omega)] at hQ
      cases eC : rd_cm tp n q with
      | error e =>
        rw [eC] at h5 hQ
        have h5 : rf_e s0 s5 e := h5
        exact ⟨fun c => absurd (h5.2.1.symm.trans c) (by decide), fun _ => hQ s5 (rf_x.y (X := .error e) h5)⟩
      | ok q1 =>
        rw [eC] at h5 hQ
        have h5 : rf_r s0 tp n s5 q1 := h5
        have hq1 : q1.2 = q.2 := by
          unfold rd_cm at eC
          split at eC
          · cases eC; rfl
          · cases eC
        exact ⟨fun _ => num s5 q1 h5 hq1 (fun s' hs' => hQ s' hs'), fun c => absurd h5.2.1 c⟩
end TW32
