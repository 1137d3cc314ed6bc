/-! CONTRACTS of the component: lists that are written (java.util.ArrayList) -/
set_option maxRecDepth 100000
theorem pn_J0 : plainName RJ0 = true := by decide +kernel
theorem pn_J1 : plainName RJ1 = true := by decide +kernel
theorem pn_J7 : plainName RJ7 = true := by decide +kernel
theorem pn_J9 : plainName RJ9 = true := by decide +kernel
/-- of the heap nothing outside P was changed, and no cell is lost -/
def hx (P : Nat → Prop) (h h' : wq_H) : Prop := (∀ (a : Nat) (e : va_E), ¬ P a → h a = some e → h' a = some e) ∧ ∀ a, h a ≠ none → h' a ≠ none
theorem hx.refl {P : Nat → Prop} {h : wq_H} : hx P h h := ⟨fun _ _ _ x => x, fun _ x => x⟩
theorem hx.trans {P Q : Nat → Prop} {h h1 h2 : wq_H} (k : hx P h h1) (k2 : hx Q h1 h2) (q : ∀ a, Q a → P a ∨ h a = none) : hx P h h2 := by
  refine ⟨fun a e hp ha => k2.1 a e (fun hq => ?_) (k.1 a e hp ha), fun a ha => k2.2 a (k.2 a ha)⟩
  rcases q a hq with z | z
  · exact hp z
  · rw [z] at ha; cases ha
theorem hx.t {P : Nat → Prop} {h h1 h2 : wq_H} (k : hx P h h1) (k2 : hx P h1 h2) : hx P h h2 := k.trans k2 (fun _ x => Or.inl x)
theorem hx.mono {P Q : Nat → Prop} {h h' : wq_H} (k : hx P h h') (q : ∀ a, P a → Q a) : hx Q h h' := ⟨fun a e hp ha => k.1 a e (fun z => hp (q a z)) ha, k.2⟩
theorem hx.set {P : Nat → Prop} {h : wq_H} {a : Nat} {e : va_E} (q : P a ∨ h a = none) : hx P h (wq_set h a e) := by
  refine ⟨fun b e' hp hb => ?_, fun b hb => ?_⟩
  · rw [wq_set_ne]
    · exact hb
    · rintro rfl
      rcases q with z | z
      · exact hp z
      · rw [z] at hb; cases hb
  · by_cases c : b = a
    · rw [c, wq_set_eq]; simp
    · rw [wq_set_ne c]; exact hb
theorem wq_set_set {h : wq_H} {a : Nat} {e e' : va_E} : wq_set (wq_set h a e) a e' = wq_set h a e' := by
  funext b
  by_cases c : b = a
  · rw [c, wq_set_eq, wq_set_eq]
  · rw [wq_set_ne c, wq_set_ne c, wq_set_ne c]
/-- an object of ours -/
def ob (h : wq_H) (a : Nat) : Prop := ∃ (ci : Nat) (fs : List Value), h a = some (.inr (ci, fs))
theorem ag_r {G : wq_G} {h : wq_H} {a m : Nat} {f : Nat → Option Nat} {F : Int32 → Prop} (ha : h a = some (.inl (G.2.2.1 3, m, wq_ra f))) (q : F (nI m)) : wq_ag G h a F :=
  ⟨G.2.2.1 3, .object "java/lang/Object", (m, wq_ra f), by simp, ha, q⟩
theorem sr_n {G : wq_G} {h : wq_H} {a m : Nat} {f : Nat → Option Nat} {i : Int32} {r : Option Nat} {F : wq_H → Prop} (hr : ∀ v, r = some v → ob h v) (ha : h a = some (.inl (G.2.2.1 3, m, wq_ra f))) (hz : G.1 ≤ a) (n : Nat) (e : i = nI n) (hn : n < m) (hm : m < 2 ^ 31) (q : F (wq_set h a (.inl (G.2.2.1 3, m, wq_ra (va_up f n r))))) : wq_sr G h a i r F := by
  subst e
  refine ⟨hr, m, f, ha, hz, vp_in_nI hn hm, ?_⟩
  rw [nI_clamp (by omega)]
  exact q
theorem na_n {G : wq_G} {h : wq_H} {e : va_E} {i : Int32} {n C S : Nat} {F : Nat → wq_H → Prop} (N : Nat) (hi : i = nI n) (hN : N = n) (hb : n ≤ 100000) (hC : 1 ≤ C) (hS : n ≤ S) (q : ∀ b, h b = none → G.1 ≤ b → F b (wq_set h b e)) : wq_na G h e i N C S F := by
  subst hi
  subst hN
  exact ⟨nI_pos (by omega), nI_clamp (by omega), hb, hC, hS, q⟩
/-- how long the array of a list is, that has grown so many times -/
def cs : Nat → Nat
  | 0 => 0
  | 1 => 10
  | n + 2 => cs (n + 1) + cs (n + 1) / 2
theorem cs_le : ∀ j, j ≤ 11 → cs j ≤ 549 := by decide +kernel
theorem cs_11 : cs 11 = 549 := by decide +kernel
theorem cs_ge : ∀ j, j ≤ 11 → 0 < j → 10 ≤ cs j := by decide +kernel
theorem cs_s : ∀ j, j ≤ 11 → 0 < j → cs (j + 1) = cs j + cs j / 2 := by decide +kernel
theorem cs_lt : ∀ j, j ≤ 10 → cs j < cs (j + 1) := by decide +kernel
/-- a list that is ours: its cells are of P; j: how many times it has grown -/
def al_j (G : wq_G) (h : wq_H) (P : Nat → Prop) (a : Nat) (es : List Nat) (j : Nat) : Prop := ∃ (m : Int32) (ba : Nat) (f : Nat → Option Nat), P a ∧ h a = some (.inr (16, [.int m, .ref ba, .int (nI es.length)])) ∧ h ba = some (.inl (G.2.2.1 3, cs j, wq_ra f)) ∧ es.length ≤ cs j ∧ j ≤ 11 ∧ (∀ k x, es[k]? = some x → f k = some x) ∧ ((j = 0 ∧ ba = G.2.2.2.2 0) ∨ (0 < j ∧ P ba))
theorem al_j.at {G : wq_G} {h : wq_H} {P : Nat → Prop} {a : Nat} {es : List Nat} {j : Nat} (k : al_j G h P a es j) : ∃ ba, al_at G h a ba es := by
  obtain ⟨m, ba, f, p1, p2, p3, p4, p5, p6, p7⟩ := k
  exact ⟨ba, m, cs j, f, p2, p3, p4, by have := cs_le j p5; omega, p6⟩
/-- the constant that lists without an array share -/
def kon (G : wq_G) (h : wq_H) : Prop := G.2.2.2.2 0 < G.1 ∧ ∃ f : Nat → Option Nat, h (G.2.2.2.2 0) = some (.inl (G.2.2.1 3, 0, wq_ra f))
theorem al_j.frame {G : wq_G} {h h' : wq_H} {P : Nat → Prop} {a : Nat} {es : List Nat} {j : Nat} (k : al_j G h P a es j) (hk : kon G h') (hf : ∀ b e, P b → h b = some e → h' b = some e) : al_j G h' P a es j := by
  obtain ⟨m, ba, f, p1, p2, p3, p4, p5, p6, p7⟩ := k
  rcases p7 with p7 | p7
  · obtain ⟨z, f2, hk⟩ := hk
    obtain ⟨rfl, rfl⟩ := p7
    have h0 : es.length = 0 := Nat.le_zero.mp p4
    exact ⟨m, _, f2, p1, hf a _ p1 p2, hk, p4, p5, fun k x hx => by rw [List.length_eq_zero_iff.mp h0] at hx; simp at hx, Or.inl ⟨rfl, rfl⟩⟩
  · exact ⟨m, ba, f, p1, hf a _ p1 p2, hf ba _ p7.2 p3, p4, p5, p6, Or.inr p7⟩
theorem al_j.mono {G : wq_G} {h : wq_H} {P Q : Nat → Prop} {a : Nat} {es : List Nat} {j : Nat} (k : al_j G h P a es j) (hf : ∀ b, P b → Q b) : al_j G h Q a es j := by
  obtain ⟨m, ba, f, p1, p2, p3, p4, p5, p6, p7⟩ := k
  exact ⟨m, ba, f, hf a p1, p2, p3, p4, p5, p6, p7.imp id fun z => ⟨z.1, hf ba z.2⟩⟩
section CP4
variable {G : wq_G} {l : Launch} {d C S : Nat} {h : wq_H} {P : Nat → Prop} {a : Nat} {es : List Nat} {j : Nat}
theorem c_J0init (x : Nat) : wq_C G l 1 0 0 mJ0_init [.ref x] h (wq_qv fun h' => h' = h) :=
  wq_C.of pn_J0 (Nat.le_of_ble_eq_true rfl) rfl (vJ0_init_0 (by decide) rfl)
/-- a new list -/
theorem c_linit {m : Int32} {v1 v2 : Value} (ha : h a = some (.inr (16, [.int m, v1, v2]))) (hz : G.1 ≤ a) : wq_C G l 3 0 0 mJ2_init [.ref a] h (wq_qv fun h' => h' = wq_set h a (.inr (16, [.int 0, .ref (G.2.2.2.2 0), v2]))) := by
  have h1 : wq_C G l 2 0 0 mJ1_init [.ref a] h (wq_qv fun h' => h' = wq_set h a (.inr (16, [.int 0, v1, v2]))) :=
    wq_C.of pn_J1 (Nat.le_of_ble_eq_true rfl) rfl (vJ1_init_0 (wq_cw.eq (by decide) (c_J0init a) (pf1 ha hz (by simp) rfl)))
  refine wq_C.of pn_J2 (Nat.le_of_ble_eq_true rfl) rfl (vJ2_init_0 (wq_cw.eq (by decide) h1 (pf1 wq_set_eq hz (by simp) ?_)))
  rw [wq_set_set]
  rfl
theorem al_new {m : Int32} (hk : kon G h) (hp : P a) (ha : h a = some (.inr (16, [.int m, .ref (G.2.2.2.2 0), .int 0]))) : al_j G h P a [] 0 := by
  obtain ⟨z, f, hk⟩ := hk
  exact ⟨m, _, f, hp, ha, hk, Nat.zero_le _, by omega, fun k x hx => by simp at hx, Or.inl ⟨rfl, rfl⟩⟩
theorem c_max {x y : Nat} (hx : x < 2 ^ 31) (hy : y < 2 ^ 31) : wq_C G l 0 0 0 mJ8_max [.int (nI x), .int (nI y)] h (wq_qi fun r h' => r = nI (max x y) ∧ h' = h) := by
  refine m_eq (m_max (nI x) (nI y)) ?_
  by_cases c : nI x < nI y
  · rw [if_pos c]
    rw [nI_ltI hx hy] at c
    rw [Nat.max_eq_right (by omega)]
  · rw [if_neg c]
    rw [nI_ltI hx hy] at c
    rw [Nat.max_eq_left (by omega)]
theorem c_minN {x y : Nat} (hx : x < 2 ^ 31) (hy : y < 2 ^ 31) : wq_C G l 0 0 0 mJ8_min [.int (nI x), .int (nI y)] h (wq_qi fun r h' => r = nI (min x y) ∧ h' = h) := by
  refine m_eq (m_min (nI x) (nI y)) ?_
  by_cases c : nI y < nI x
  · rw [if_pos c]
    rw [nI_ltI hy hx] at c
    rw [Nat.min_eq_right (by omega)]
  · rw [if_neg c]
    rw [nI_ltI hy hx] at c
    rw [Nat.min_eq_left (by omega)]
theorem c_newLength {n g p : Nat} (h0 : 0 < n + max g p) (hn : n < 100000) (hg : g < 100000) (hp : p < 100000) : wq_C G l 1 0 0 mJ7_newLength [.int (nI n), .int (nI g), .int (nI p)] h (wq_qi fun r h' => r = nI (n + max g p) ∧ h' = h) := by
  have hm : max g p < 100000 := by omega
  refine wq_C.of pn_J7 (Nat.le_of_ble_eq_true rfl) rfl (vJ7_newLength_0 (wq_ci.eq (by decide) (c_max (by omega) (by omega)) ?_))
  rw [nI_add]
  refine ⟨fun c => absurd c (nI_nle h0 (by omega)), fun _ => ⟨fun c => ?_, fun _ => ⟨rfl, rfl⟩⟩⟩
  rw [nI_lit 2147483639, nI_ltI (by omega) (by omega)] at c
  omega
/-- an Object array copied into a longer one -/
theorem c_copyOf3 {ba n N : Nat} {f : Nat → Option Nat} (hb : h ba = some (.inl (G.2.2.1 3, n, wq_ra f))) (hz : G.1 ≤ ba) (hn : n ≤ N) (hN : N ≤ 100000) (ho : ∀ i, i < n → ∀ y, f i = some y → ob h y) : wq_C G l 1 1 N mJ9_copyOf_3 [.ref ba, .int (nI N), .ref (G.2.2.2.2 2)] h (wq_qq fun r h' => ∃ q f', r = some q ∧ h q = none ∧ G.1 ≤ q ∧ h' = wq_set h q (.inl (G.2.2.1 3, N, wq_ra f')) ∧ ∀ i, i < n → f' i = f i) := by
  refine wq_C.of pn_J9 (Nat.le_of_ble_eq_true rfl) rfl (vJ9_copyOf_3_0 (by decide) ⟨fun c => absurd rfl c, fun _ => na_n _ rfl (nI_clamp (by omega)) hN (by omega) (Nat.le_refl _) fun q hq hqz => ?_⟩)
  have hne : ba ≠ q := by rintro rfl; rw [hq] at hb; cases hb
  have hb2 : (wq_set h q (.inl (G.2.2.1 3, (nI N).toNatClampNeg, wq_ra (fun _ => none)))) ba = some (.inl (G.2.2.1 3, n, wq_ra f)) := by rw [wq_set_ne hne]; exact hb
  refine ag_r hb2 (wq_ci.eq (by decide) (c_minN (by omega) (by omega)) ?_)
  rw [Nat.min_eq_left hn]
  have e0 : (0 : Int32).toNatClampNeg = 0 := by decide
  refine ⟨n, f, _, _, hb2, wq_set_eq, hz, hqz, by decide, by decide, nI_pos (by omega), ?_, ?_, ?_, ?_⟩
  · rw [nI_clamp (by omega), e0]; omega
  · rw [nI_clamp (by omega), nI_clamp (by omega), e0]; omega
  · intro i hi y hy
    rw [nI_clamp (by omega)] at hi
    rw [e0, Nat.zero_add] at hy
    obtain ⟨ci, fs, ho⟩ := ho i hi y hy
    refine ⟨ci, fs, ?_⟩
    rw [wq_set_ne]
    · exact ho
    · rintro rfl; rw [hq] at ho; cases ho
  · rw [wq_set_set, nI_clamp (by omega), nI_clamp (by omega), e0]
    refine ⟨q, _, rfl, hq, hqz, rfl, fun i hi => ?_⟩
    simp [va_cpy, hi]
theorem c_copyOf2 {ba n N : Nat} {f : Nat → Option Nat} (hb : h ba = some (.inl (G.2.2.1 3, n, wq_ra f))) (hz : G.1 ≤ ba) (hn : n ≤ N) (hN : N ≤ 100000) (ho : ∀ i, i < n → ∀ y, f i = some y → ob h y) : wq_C G l 2 1 N mJ9_copyOf_2 [.ref ba, .int (nI N)] h (wq_qq fun r h' => ∃ q f', r = some q ∧ h q = none ∧ G.1 ≤ q ∧ h' = wq_set h q (.inl (G.2.2.1 3, N, wq_ra f')) ∧ ∀ i, i < n → f' i = f i) :=
  wq_C.of pn_J9 (Nat.le_of_ble_eq_true rfl) rfl (vJ9_copyOf_2_0 (by decide) ⟨_, ⟨hz, hb⟩, wq_cq.use (by decide) (Nat.le_refl _) (Nat.le_refl _) (c_copyOf3 hb hz hn hN ho) fun _ _ q => q⟩)
theorem c_grow2 {m : Int32} {ba : Nat} {f : Nat → Option Nat} (ha : h a = some (.inr (16, [.int m, .ref ba, .int (nI (cs j))]))) (hb : h ba = some (.inl (G.2.2.1 3, cs j, wq_ra f))) (hz : G.1 ≤ a) (hj : j ≤ 10) (hc : (j = 0 ∧ ba = G.2.2.2.2 0) ∨ (0 < j ∧ G.1 ≤ ba)) (ho : ∀ i, i < cs j → ∀ y, f i = some y → ob h y) : wq_C G l 3 1 (cs (j + 1)) mJ2_grow_2 [.ref a, .int (nI (cs j + 1))] h (wq_qq fun r h' => ∃ q f', r = some q ∧ h q = none ∧ G.1 ≤ q ∧ h' = wq_set (wq_set h q (.inl (G.2.2.1 3, cs (j + 1), wq_ra f'))) a (.inr (16, [.int m, .ref q, .int (nI (cs j))])) ∧ ∀ i, i < cs j → f' i = f i) := by
  have hle := cs_le j (by omega)
  refine wq_C.of pn_J2 (Nat.le_of_ble_eq_true rfl) rfl (vJ2_grow_2_0 (gR1 ha rfl (ag_r hb ?_)))
  rcases Nat.eq_zero_or_pos j with h0 | h0
  · subst h0
    refine ⟨fun c => absurd c (by decide), fun _ => gR1 ha rfl ⟨fun _ => ?_, fun c => ?_⟩⟩
    · refine wq_ci.eq (by decide) (c_max (x := 10) (y := cs 0 + 1) (by decide) (by decide)) (na_n _ rfl (nI_clamp (by decide)) (by decide) (by omega) (by decide) fun q hq hqz => ?_)
      have hne : a ≠ q := by rintro rfl; rw [hq] at ha; cases ha
      refine pf1 (by rw [wq_set_ne hne]; exact ha) hz (by simp) ⟨q, fun _ => none, rfl, hq, hqz, rfl, fun i hi => ?_⟩
      exact absurd hi (Nat.not_lt_zero _)
    · rcases hc with hc | hc
      · rw [hc.2] at c; exact absurd rfl c
      · omega
  · have hge := cs_ge j (by omega) h0
    have hle2 := cs_le (j + 1) (by omega)
    have hs := cs_s j (by omega) h0
    have hz2 : G.1 ≤ ba := by
      rcases hc with hc | hc
      · omega
      · exact hc.2
    refine ⟨fun _ => ?_, fun c => ?_⟩
    · have e1 : nI (cs j + 1) - nI (cs j) = nI 1 := by
        rw [nI_iI, nI_iI, iI_sub, nI_iI]
        congr 1
        omega
      have e2 : nI (cs j) >>> ((1 : Int32) &&& 31) = nI (cs j / 2) := nI_shr (k := 1) (by omega) (by omega)
      have e3 : cs j + max 1 (cs j / 2) = cs (j + 1) := by omega
      rw [e1, e2]
      refine wq_ci.eq (by decide) (c_newLength (n := cs j) (g := 1) (p := cs j / 2) (by omega) (by omega) (by omega) (by omega)) ?_
      rw [e3]
      refine gR1 ha rfl (wq_cq.use (by decide) (Nat.le_refl _) (Nat.le_refl _) (c_copyOf2 hb hz2 (by omega) (by omega) ho) ?_)
      rintro r h' ⟨q, f', rfl, hq, hqz, rfl, hf⟩
      have hne : a ≠ q := by rintro rfl; rw [hq] at ha; cases ha
      exact pf1 (by rw [wq_set_ne hne]; exact ha) hz (by simp) ⟨q, f', rfl, hq, hqz, rfl, hf⟩
    · rw [nI_lit 0, nI_ltI (by omega) (by omega)] at c
      omega
theorem c_grow {m : Int32} {ba : Nat} {f : Nat → Option Nat} (ha : h a = some (.inr (16, [.int m, .ref ba, .int (nI (cs j))]))) (hb : h ba = some (.inl (G.2.2.1 3, cs j, wq_ra f))) (hz : G.1 ≤ a) (hj : j ≤ 10) (hc : (j = 0 ∧ ba = G.2.2.2.2 0) ∨ (0 < j ∧ G.1 ≤ ba)) (ho : ∀ i, i < cs j → ∀ y, f i = some y → ob h y) : wq_C G l 4 1 (cs (j + 1)) mJ2_grow [.ref a] h (wq_qq fun r h' => ∃ q f', r = some q ∧ h q = none ∧ G.1 ≤ q ∧ h' = wq_set (wq_set h q (.inl (G.2.2.1 3, cs (j + 1), wq_ra f'))) a (.inr (16, [.int m, .ref q, .int (nI (cs j))])) ∧ ∀ i, i < cs j → f' i = f i) := by
  refine wq_C.of pn_J2 (Nat.le_of_ble_eq_true rfl) rfl (vJ2_grow_0 (gI1 ha rfl ⟨_, ha, ?_⟩))
  rw [nI_1]
  exact wq_cq.use (by decide) (Nat.le_refl _) (Nat.le_refl _) (c_grow2 ha hb hz hj hc ho) fun _ _ q => q
/-- an element more, the array being long enough -/
theorem c_add0 (ha : al_j G h P a es j) (hP : ∀ b, P b → G.1 ≤ b) (hl : es.length < cs j) {y : Nat} (hy : ob h y) : wq_C G l 6 0 0 mJ2_add [.ref a, .ref y] h (wq_qi fun r h' => r = 1 ∧ al_j G h' P a (es ++ [y]) j ∧ hx P h h') := by
  obtain ⟨m, ba, f, p1, p2, p3, p4, p5, p6, p7⟩ := ha
  have hne : a ≠ ba := by rintro rfl; rw [p2] at p3; cases p3
  have hj : 0 < j ∧ P ba := by
    rcases p7 with z | z
    · rw [z.1] at hl; exact absurd hl (Nat.not_lt_zero _)
    · exact z
  have hle := cs_le j p5
  have hb2 : (wq_set h a (.inr (16, [.int (m + 1), .ref ba, .int (nI es.length)]))) ba = some (.inl (G.2.2.1 3, cs j, wq_ra f)) := by rw [wq_set_ne hne.symm]; exact p3
  have hy2 : ob (wq_set h a (.inr (16, [.int (m + 1), .ref ba, .int (nI es.length)]))) y := by
    by_cases c : y = a
    · exact ⟨_, _, by rw [c]; exact wq_set_eq⟩
    · obtain ⟨ci, fs, hy⟩ := hy
      exact ⟨ci, fs, by rw [wq_set_ne c]; exact hy⟩
  refine wq_C.of pn_J2 (Nat.le_of_ble_eq_true rfl) rfl (vJ2_add_0 (gI1 p2 rfl (pf1 p2 (hP a p1) (by simp) (gR1 wq_set_eq rfl (gI1 wq_set_eq rfl ⟨_, wq_set_eq, wq_cw.use (K := fun h' => al_j G h' P a (es ++ [y]) j ∧ hx P h h') (d' := 5) (mc := 0) (ms := 0) (by decide) (Nat.le_refl _) (Nat.le_refl _) (wq_C.of pn_J2 (Nat.le_of_ble_eq_true rfl) rfl (vJ2_add_2_0 (ag_r hb2 ⟨fun _ => sr_n (by rintro v ⟨⟩; exact hy2) hb2 (hP ba hj.2) es.length rfl hl (by omega) (pf1 (by rw [wq_set_ne hne]; exact wq_set_eq) (hP a p1) (by simp) ?_), fun c => ?_⟩))) fun h' q => ⟨rfl, q⟩⟩)))))
  · refine ⟨⟨m + 1, ba, va_up f es.length (some y), p1, ?_, ?_, ?_, p5, fun k x hx => ?_, Or.inr hj⟩, ?_⟩
    · rw [wq_set_eq, nI_1, List.length_append]; rfl
    · rw [wq_set_ne hne.symm, wq_set_eq]
    · rw [List.length_append]; simp; omega
    · by_cases c : k = es.length
      · rw [c, List.getElem?_append_right (Nat.le_refl _), Nat.sub_self] at hx
        cases hx
        rw [c, va_up_self]
      · rw [va_up_ne _ _ c]
        have hk := (List.getElem?_eq_some_iff.mp hx).1
        rw [List.length_append] at hk
        simp at hk
        rw [List.getElem?_append_left (by omega)] at hx
        exact p6 k x hx
    · exact ((hx.set (Or.inl p1)).t (hx.set (Or.inl hj.2))).t (hx.set (Or.inl p1))
  · rw [nI_eq (by omega) (by omega)] at c
    omega
/-- an element more, the array grows -/
theorem c_add1 (ha : al_j G h P a es j) (hP : ∀ b, P b → G.1 ≤ b) (hl : es.length = cs j) (hj : j ≤ 10) (ho : ∀ x ∈ es, ob h x) {y : Nat} (hy : ob h y) : wq_C G l 6 1 (cs (j + 1)) mJ2_add [.ref a, .ref y] h (wq_qi fun r h' => r = 1 ∧ ∃ q, h q = none ∧ G.1 ≤ q ∧ al_j G h' (fun b => P b ∨ b = q) a (es ++ [y]) (j + 1) ∧ hx P h h') := by
  obtain ⟨m, ba, f, p1, p2, p3, p4, p5, p6, p7⟩ := ha
  have hne : a ≠ ba := by rintro rfl; rw [p2] at p3; cases p3
  have hle := cs_le j p5
  have hle2 := cs_le (j + 1) (by omega)
  have hlt := cs_lt j hj
  have up : ∀ x, ob h x → ob (wq_set h a (.inr (16, [.int (m + 1), .ref ba, .int (nI es.length)]))) x := by
    intro y hy
    by_cases c : y = a
    · exact ⟨_, _, by rw [c]; exact wq_set_eq⟩
    · obtain ⟨ci, fs, hy⟩ := hy
      exact ⟨ci, fs, by rw [wq_set_ne c]; exact hy⟩
  have hb2 : (wq_set h a (.inr (16, [.int (m + 1), .ref ba, .int (nI es.length)]))) ba = some (.inl (G.2.2.1 3, cs j, wq_ra f)) := by rw [wq_set_ne hne.symm]; exact p3
  have hy2 := up y hy
  have hf : ∀ i, i < cs j → ∀ y, f i = some y → ob (wq_set h a (.inr (16, [.int (m + 1), .ref ba, .int (nI es.length)]))) y := by
    intro i hi y hy
    have hi2 : i < es.length := by omega
    have := p6 i es[i] (List.getElem?_eq_getElem hi2)
    rw [this] at hy
    cases hy
    exact up _ (ho _ (List.getElem_mem hi2))
  have hc : (j = 0 ∧ ba = G.2.2.2.2 0) ∨ (0 < j ∧ G.1 ≤ ba) := p7.imp id fun z => ⟨z.1, hP ba z.2⟩
  rw [hl] at hb2 hf hy2 p2
  refine wq_C.of pn_J2 (Nat.le_of_ble_eq_true rfl) rfl (vJ2_add_0 (gI1 p2 rfl (pf1 p2 (hP a p1) (by simp) (gR1 wq_set_eq rfl (gI1 wq_set_eq rfl ⟨_, wq_set_eq, wq_cw.use (K := fun h' => ∃ q, h q = none ∧ G.1 ≤ q ∧ al_j G h' (fun b => P b ∨ b = q) a (es ++ [y]) (j + 1) ∧ hx P h h') (d' := 5) (mc := 1) (ms := cs (j + 1)) (by decide) (Nat.le_refl _) (Nat.le_refl _) (wq_C.of pn_J2 (Nat.le_of_ble_eq_true rfl) rfl (vJ2_add_2_0 (ag_r hb2 ⟨fun c => absurd rfl c, fun _ => ⟨_, wq_set_eq, wq_cq.use (by decide) (Nat.le_refl _) (Nat.le_refl _) (c_grow wq_set_eq hb2 (hP a p1) hj hc hf) ?_⟩⟩))) fun h' q => ⟨rfl, q⟩⟩)))))
  rintro r h' ⟨q, f', rfl, hq, hqz, rfl, hff⟩
  have hqa : q ≠ a := by rintro rfl; rw [wq_set_eq] at hq; cases hq
  rw [wq_set_ne hqa] at hq
  refine ⟨q, rfl, sr_n ?_ (by rw [wq_set_ne hqa, wq_set_eq]) hqz (cs j) rfl hlt (by omega) (pf1 (by rw [wq_set_ne hqa.symm]; exact wq_set_eq) (hP a p1) (by simp) ?_)⟩
  · rintro v ⟨⟩
    obtain ⟨ci, fs, hy2⟩ := hy2
    by_cases c : y = a
    · exact ⟨_, _, by rw [c]; exact wq_set_eq⟩
    · refine ⟨ci, fs, ?_⟩
      rw [wq_set_ne c, wq_set_ne]
      · exact hy2
      · rintro rfl
        rw [wq_set_ne c, hq] at hy2
        cases hy2
  · refine ⟨q, hq, hqz, ⟨m + 1, q, va_up f' (cs j) (some y), Or.inl p1, ?_, ?_, ?_, by omega, fun k x hx => ?_, Or.inr ⟨by omega, Or.inr rfl⟩⟩, ?_⟩
    · rw [wq_set_eq, nI_1, List.length_append, hl]; rfl
    · rw [wq_set_ne hqa, wq_set_eq]
    · rw [List.length_append, hl]; simp; omega
    · by_cases c : k = es.length
      · rw [c, List.getElem?_append_right (Nat.le_refl _), Nat.sub_self] at hx
        cases hx
        rw [c, hl, va_up_self]
      · rw [va_up_ne _ _ (by omega)]
        have hk := (List.getElem?_eq_some_iff.mp hx).1
        rw [List.length_append] at hk
        simp at hk
        rw [List.getElem?_append_left (by omega)] at hx
        rw [hff k (by omega)]
        exact p6 k x hx
    · refine ((((hx.set (Or.inl p1)).t (hx.set (Or.inr ?_))).t (hx.set (Or.inl p1))).trans (Q := fun b => b = q) (hx.set (Or.inl rfl)) (fun b hb => Or.inr (by rw [hb]; exact hq))).t (hx.set (Or.inl p1))
      rw [wq_set_ne hqa]; exact hq
/-- an element more, be it so or so -/
theorem u_add (ha : al_j G h P a es j) (hP : ∀ b, P b → G.1 ≤ b) (hl : es.length < 549) (ho : ∀ x ∈ es, ob h x) {y : Nat} (hy : ob h y) (hd : 6 < d) (hC : 1 ≤ C) (hS : 2 * es.length + 10 ≤ S) {F : Int32 → wq_H → Nat → Nat → Prop} (k : ∀ (h' : wq_H) (C' S' : Nat) (N : Nat → Prop) (j' : Nat), C - 1 ≤ C' → S - (2 * es.length + 10) ≤ S' → (∀ b, N b → h b = none ∧ G.1 ≤ b) → al_j G h' (fun b => P b ∨ N b) a (es ++ [y]) j' → hx P h h' → F 1 h' C' S') : wq_ci G l d C S mJ2_add [.ref a, .ref y] h F := by
  have hjl := ha
  obtain ⟨m, ba, f, p1, p2, p3, p4, p5, p6, p7⟩ := hjl
  by_cases c : es.length < cs j
  · refine wq_ci.use hd (Nat.zero_le _) (Nat.zero_le _) (c_add0 ha hP c hy) ?_
    rintro x h' ⟨rfl, q1, q2⟩
    exact k h' _ _ (fun _ => False) j (by omega) (by omega) (fun b z => z.elim) (q1.mono fun b z => Or.inl z) q2
  · have hj : j ≤ 10 := by
      rcases Nat.lt_or_ge 10 j with z | z
      · obtain rfl : j = 11 := by omega
        rw [cs_11] at c; omega
      · exact z
    have hcs : cs (j + 1) ≤ 2 * es.length + 10 := by
      rcases Nat.eq_zero_or_pos j with z | z
      · subst z
        show 10 ≤ _
        omega
      · have := cs_s j (by omega) z; omega
    refine wq_ci.use hd hC (by omega) (c_add1 ha hP (by omega) hj ho hy) ?_
    rintro x h' ⟨rfl, q, q0, q1, q2, q3⟩
    exact k h' _ _ (fun b => b = q) (j + 1) (by omega) (by omega) (fun b z => by rw [z]; exact ⟨q0, q1⟩) q2 q3
theorem ob_set {x b : Nat} {ci : Nat} {fs : List Value} (hx : ob h x) : ob (wq_set h b (.inr (ci, fs))) x := by
  by_cases c : x = b
  · exact ⟨ci, fs, by rw [c]; exact wq_set_eq⟩
  · obtain ⟨c1, f1, hx⟩ := hx
    exact ⟨c1, f1, by rw [wq_set_ne c]; exact hx⟩
theorem al_own (ha : al_j G h P a es j) (h0 : 0 < es.length) : 0 < j := by
  obtain ⟨m, ba, f, p1, p2, p3, p4, p5, p6, p7⟩ := ha
  rcases p7 with z | z
  · rw [z.1] at p4; exact absurd (Nat.lt_of_lt_of_le h0 p4) (Nat.not_lt_zero _)
  · exact z.1
/-- an element's place taken by another -/
theorem c_lset (ha : al_j G h P a es j) (hP : ∀ b, P b → G.1 ≤ b) {k x : Nat} (hk : es[k]? = some x) {y : Nat} (hy : ob h y) : wq_C G l 2 0 0 mJ2_set [.ref a, .int (nI k), .ref y] h (wq_qq fun r h' => r = some x ∧ al_j G h' P a (es.set k y) j ∧ hx P h h') := by
  have hkl := (List.getElem?_eq_some_iff.mp hk).1
  obtain ⟨ba0, hat⟩ := ha.at
  have hj := al_own ha (by omega)
  obtain ⟨m, ba, f, p1, p2, p3, p4, p5, p6, p7⟩ := ha
  have hle := cs_le j p5
  have hb : P ba := by
    rcases p7 with z | z
    · omega
    · exact z.2
  have hne : a ≠ ba := by rintro rfl; rw [p2] at p3; cases p3
  refine wq_C.of pn_J2 (Nat.le_of_ble_eq_true rfl) rfl (vJ2_set_0 (gI1 p2 rfl (wq_ci.eq (by decide) (c_check hkl (by omega)) ⟨_, p2, wq_cq.eq (by decide) (c_elem hat hk) (gR1 p2 rfl (sr_n (by rintro v ⟨⟩; exact hy) p3 (hP ba hb) k rfl (by omega) (by omega) ?_))⟩)))
  refine ⟨rfl, ⟨m, ba, va_up f k (some y), p1, ?_, wq_set_eq, by rw [List.length_set]; exact p4, p5, fun i z hz => ?_, Or.inr ⟨hj, hb⟩⟩, hx.set (Or.inl hb)⟩
  · rw [wq_set_ne hne, List.length_set]; exact p2
  · by_cases c : i = k
    · rw [c, va_up_self]
      rw [c, List.getElem?_set_self hkl] at hz
      exact hz
    · rw [va_up_ne _ _ c]
      rw [List.getElem?_set_ne (fun q => c q.symm)] at hz
      exact p6 i z hz
/-- an element goes -/
theorem c_lremove (ha : al_j G h P a es j) (hP : ∀ b, P b → G.1 ≤ b) (ho : ∀ x ∈ es, ob h x) {k x : Nat} (hk : es[k]? = some x) : wq_C G l 2 0 0 mJ2_remove [.ref a, .int (nI k)] h (wq_qq fun r h' => r = some x ∧ al_j G h' P a (es.eraseIdx k) j ∧ hx P h h') := by
  have hkl := (List.getElem?_eq_some_iff.mp hk).1
  have hj := al_own ha (by omega)
  obtain ⟨m, ba, f, p1, p2, p3, p4, p5, p6, p7⟩ := ha
  have hle := cs_le j p5
  have hb : P ba := by
    rcases p7 with z | z
    · omega
    · exact z.2
  have hne : a ≠ ba := by rintro rfl; rw [p2] at p3; cases p3
  have hlen : (es.eraseIdx k).length = es.length - 1 := by rw [List.length_eraseIdx, if_pos hkl]
  have b1 : (wq_set h a (.inr (16, [.int (m + 1), .ref ba, .int (nI es.length)]))) ba = some (.inl (G.2.2.1 3, cs j, wq_ra f)) := by rw [wq_set_ne hne.symm]; exact p3
  have fin : ∀ (f' : Nat → Option Nat) (h' : wq_H), (∀ i z, (es.eraseIdx k)[i]? = some z → f' i = some z) → h' a = some (.inr (16, [.int (m + 1), .ref ba, .int (nI (es.length - 1))])) → h' ba = some (.inl (G.2.2.1 3, cs j, wq_ra f')) → al_j G h' P a (es.eraseIdx k) j :=
    fun f' h' g1 g2 g3 => ⟨m + 1, ba, f', p1, by rw [hlen]; exact g2, g3, by omega, p5, g1, Or.inr ⟨hj, hb⟩⟩
  have fast : wq_C G l 1 0 0 mJ2_fastRemove [.ref a, .ref ba, .int (nI k)] h (wq_qv fun h' => al_j G h' P a (es.eraseIdx k) j ∧ hx P h h') := by
    refine wq_C.of pn_J2 (Nat.le_of_ble_eq_true rfl) rfl (vJ2_fastRemove_0 (by decide) (gI1 p2 rfl (pf1 p2 (hP a p1) (by simp) (gI1 wq_set_eq rfl ?_))))
    rw [nI_sub1 (by omega), nI_leI (by omega) (by omega)]
    refine ⟨fun c => pf1 wq_set_eq (hP a p1) (by simp) (sr_n (by rintro v ⟨⟩) (by rw [wq_set_set, wq_set_ne hne.symm]; exact p3) (hP ba hb) (es.length - 1) rfl (by omega) (by omega) ⟨fin (va_up f (es.length - 1) none) _ (fun i z hz => ?_) ?_ wq_set_eq, ?_⟩), fun c => ?_⟩
    · have hi := (List.getElem?_eq_some_iff.mp hz).1
      rw [List.getElem?_eraseIdx, if_pos (by omega)] at hz
      rw [va_up_ne _ _ (by omega)]
      exact p6 i z hz
    · rw [wq_set_ne hne, wq_set_eq]; rfl
    · exact ((hx.set (Or.inl p1)).t (hx.set (Or.inl p1))).t (hx.set (Or.inl hb))
    · have e1 : nI k + 1 = nI (k + 1) := nI_1 k
      have e2 : nI (es.length - 1) - nI k = nI (es.length - 1 - k) := by
        rw [nI_iI, nI_iI, iI_sub, nI_iI]
        congr 1
        omega
      rw [e1, e2]
      refine ⟨cs j, f, cs j, f, b1, b1, hP ba hb, hP ba hb, nI_pos (by omega), nI_pos (by omega), nI_pos (by omega), ?_, ?_, ?_, ?_⟩
      · rw [nI_clamp (by omega), nI_clamp (by omega)]; omega
      · rw [nI_clamp (by omega), nI_clamp (by omega)]; omega
      · intro i hi y hy
        rw [nI_clamp (by omega)] at hi hy
        have hi2 : k + 1 + i < es.length := by omega
        rw [p6 _ _ (List.getElem?_eq_getElem hi2)] at hy
        cases hy
        exact ob_set (ho _ (List.getElem_mem hi2))
      · rw [nI_clamp (by omega), nI_clamp (by omega), nI_clamp (by omega)]
        refine pf1 (by rw [wq_set_ne hne]; exact wq_set_eq) (hP a p1) (by simp) (sr_n (by rintro v ⟨⟩) (by rw [wq_set_ne hne.symm, wq_set_eq]) (hP ba hb) (es.length - 1) rfl (by omega) (by omega) ⟨fin (va_up (va_cpy f f (k + 1) k (es.length - 1 - k)) (es.length - 1) none) _ (fun i z hz => ?_) ?_ wq_set_eq, ?_⟩)
        · have hi := (List.getElem?_eq_some_iff.mp hz).1
          rw [va_up_ne _ _ (by omega)]
          rw [List.getElem?_eraseIdx] at hz
          unfold va_cpy
          by_cases q : i < k
          · rw [if_pos q] at hz
            rw [if_neg (by omega)]
            exact p6 i z hz
          · rw [if_neg q] at hz
            rw [if_pos (by omega), show k + 1 + (i - k) = i + 1 by omega]
            exact p6 _ z hz
        · rw [wq_set_ne hne, wq_set_eq]; rfl
        · exact (((hx.set (Or.inl p1)).t (hx.set (Or.inl hb))).t (hx.set (Or.inl p1))).t (hx.set (Or.inl hb))
  refine wq_C.of pn_J2 (Nat.le_of_ble_eq_true rfl) rfl (vJ2_remove_0 (gI1 p2 rfl (wq_ci.eq (by decide) (c_check hkl (by omega)) (gR1 p2 rfl (ar_n p3 k rfl (by omega) (by omega) ⟨_, p2, wq_cw.use (by decide) (Nat.le_refl _) (Nat.le_refl _) fast fun h' q => ⟨p6 k x hk, q⟩⟩)))))
/-- all elements go -/
theorem c_lclear (ha : al_j G h P a es j) (hP : ∀ b, P b → G.1 ≤ b) : wq_C G l 0 0 0 mJ2_clear [.ref a] h (wq_qv fun h' => al_j G h' P a [] j ∧ hx P h h') := by
  obtain ⟨m, ba, f, p1, p2, p3, p4, p5, p6, p7⟩ := ha
  have hle := cs_le j p5
  have hne : a ≠ ba := by rintro rfl; rw [p2] at p3; cases p3
  refine wq_C.of pn_J2 (Nat.le_of_ble_eq_true rfl) rfl (vJ2_clear_0 (gI1 p2 rfl (pf1 p2 (hP a p1) (by simp) (gR1 wq_set_eq rfl (gI1 wq_set_eq rfl (pf1 wq_set_eq (hP a p1) (by simp) ?_))))))
  rw [wq_set_set]
  have key : ∀ n i h2, i + n = es.length → (∃ f', h2 ba = some (.inl (G.2.2.1 3, cs j, wq_ra f'))) → h2 a = some (.inr (16, [.int (m + 1), .ref ba, .int 0])) → hx P h h2 → wq_T G l 0 mJ2_clear (wq_qv fun h' => al_j G h' P a [] j ∧ hx P h h') 27 [none, some (.ref ba), some (.int (nI es.length)), some (.int (nI i))] [] h2 0 0 := by
    intro n
    induction n with
    | zero =>
      intro i h2 hi g1 g2 g3
      obtain rfl : i = es.length := by omega
      obtain ⟨f', g1⟩ := g1
      exact vJ2_clear_27 ⟨fun _ => ⟨⟨m + 1, ba, f', p1, g2, g1, Nat.zero_le _, p5, fun k x hx => by simp at hx, p7⟩, g3⟩, fun c => absurd (Int32.le_refl _) c⟩
    | succ n ih =>
      intro i h2 hi g1 g2 g3
      obtain ⟨f', g1⟩ := g1
      have hb : P ba := by
        rcases p7 with z | z
        · rw [z.1] at p4; exact absurd p4 (by show ¬ _ ≤ 0; omega)
        · exact z.2
      refine vJ2_clear_27 ⟨fun c => ?_, fun _ => sr_n (by rintro v ⟨⟩) g1 (hP ba hb) i rfl (by omega) (by omega) ?_⟩
      · rw [nI_leI (by omega) (by omega)] at c
        omega
      · rw [nI_1]
        exact ih (i + 1) _ (by omega) ⟨_, wq_set_eq⟩ (by rw [wq_set_ne hne]; exact g2) (g3.t (hx.set (Or.inl hb)))
  exact key es.length 0 _ (by omega) ⟨f, by rw [wq_set_ne hne.symm]; exact p3⟩ wq_set_eq (hx.set (Or.inl p1))
end CP4
