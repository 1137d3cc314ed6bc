/-! CONTRACTS of the reference: machines -/
set_option maxRecDepth 100000
abbrev zs_M : Type := Nat → Option (Nat × Nat)
def zs_Mu (M : zs_M) (k a n : Nat) : zs_M := fun j => if j = k then some (a, n) else M j
/-- the first of some tries that goes well -/
def trys (f : Nat → Option zs_M) : Nat → Nat → Option zs_M
  | 0, _ => none
  | m + 1, to => match f to with
    | some M => some M
    | none => trys f m (to + 1)
def mcC (S : Nat) (K : zs_M → Option zs_M) : List (Nat × Nat) → Nat → zs_M → Option zs_M
  | [], _, M => K M
  | x :: c, st, M => match M (6 * st + x.1) with
    | some e => if e.1 = x.2 then mcC S K c e.2 M else none
    | none => trys (fun to => mcC S K c to (zs_Mu M (6 * st + x.1) x.2 to)) S 0
def mcR (S : Nat) : List (List (Nat × Nat)) → zs_M → Option zs_M
  | [], M => some M
  | r :: rs, M => mcC S (mcR S rs) r 0 M
def zs_mach (B : zs_B) : Option (Nat × zs_M) := match mcR 1 B.2.2.2 (fun _ => none) with
  | some M => some (1, M)
  | none => match mcR 2 B.2.2.2 (fun _ => none) with
    | some M => some (2, M)
    | none => match mcR 3 B.2.2.2 (fun _ => none) with
      | some M => some (3, M)
      | none => none
def mok (M : zs_M) : Prop := ∀ k e, M k = some e → e.1 ≤ 1 ∧ e.2 < 3
theorem mok_u {M : zs_M} (h : mok M) {k a n : Nat} (ha : a ≤ 1) (hn : n < 3) : mok (zs_Mu M k a n) := by
  intro j e he
  simp only [zs_Mu] at he
  split at he
  · cases he; exact ⟨ha, hn⟩
  · exact h j e he
/-- the machine as it lies there -/
def mr (s : tw_S) (M : zs_M) : Prop := ∀ k, k < 18 → (match M k with
  | none => s.2.1 38 k = 2 ∧ s.2.1 39 k = -1
  | some e => s.2.1 38 k = nI e.1 ∧ s.2.1 39 k = nI e.2)
theorem mr_none {s : tw_S} {M : zs_M} (h : mr s M) {k : Nat} (hk : k < 18) (he : M k = none) : s.2.1 38 k = 2 ∧ s.2.1 39 k = -1 := by
  have := h k hk
  rw [he] at this
  exact this
theorem mr_some {s : tw_S} {M : zs_M} (h : mr s M) {k : Nat} (hk : k < 18) {e : Nat × Nat} (he : M k = some e) : s.2.1 38 k = nI e.1 ∧ s.2.1 39 k = nI e.2 := by
  have := h k hk
  rw [he] at this
  exact this
theorem ru_drop {B : zs_B} {u : Nat} (h : u < B.2.2.2.length) : B.2.2.2.drop u = zs_ru B u :: B.2.2.2.drop (u + 1) := by
  unfold zs_ru
  rw [List.getElem?_eq_getElem h]
  exact List.drop_eq_getElem_cons h
section TW13
variable {G : wq_G} {l : Launch} {o : Nat} {ad : Nat → Nat} {h : wq_H} {s : tw_S} {L : Nat} {B : zs_B}
/-- the end of a try -/
def mc_e (s : tw_S) (M : zs_M) (v : Option zs_M) : Int32 → tw_S → Prop := fun r s' => tw_f1 s s' ∧ match v with
  | some M' => r = 1 ∧ mr s' M' ∧ mok M'
  | none => r = 0 ∧ mr s' M
theorem t_tellsAll (ok : tw_ok G o ad) (hL : L ≤ 6) {S : Nat} (hS : S ≤ 3) : ∀ (n : Nat), (∀ (s : tw_S) (M : zs_M), tr_b s L B → mr s M → mok M → wq_C G l n 0 0 mX3_tellsAll [.ref o, .int (nI S), .int (nI B.2.2.2.length), .int 0, .int 0] (tw_h G o ad s h) (tw_qi G o ad h (mc_e s M (some M)))) ∧ ∀ (s : tw_S) (M : zs_M) (u t st : Nat), tr_b s L B → mr s M → mok M → u < B.2.2.2.length → t ≤ (zs_ru B u).length → st < 3 → 8 * (B.2.2.2.length - u) + 8 - t ≤ n → wq_C G l n 0 0 mX3_tellsAll [.ref o, .int (nI S), .int (nI u), .int (nI t), .int (nI st)] (tw_h G o ad s h) (tw_qi G o ad h (mc_e s M (mcC S (mcR S (B.2.2.2.drop (u + 1))) ((zs_ru B u).drop t) st M))) := by
  intro n
  induction n with
  | zero =>
    refine ⟨fun s M hB hM hm => ?_, fun s M u t st hB hM hm hu ht hst hn => ?_⟩
    · have h4 := hB.1.2.2.2.2.2.1
      refine wq_C.of pn_X3 (Nat.le_of_ble_eq_true rfl) rfl (vX3_tellsAll_0 ok (tw_ld_n 158 rfl (by decide) ?_))
      rw [hB.2.2.2.2.2.2.1]
      exact ⟨fun c => absurd rfl c, fun _ => ⟨tw_f1.refl _, rfl, hM, hm⟩⟩
    · have := (hB.1.2.2.2.2.2.2 _ (ru_mem hu)).1
      omega
  | succ n ih =>
    refine ⟨fun s M hB hM hm => ?_, fun s M u t st hB hM hm hu ht hst hn => ?_⟩
    · have h4 := hB.1.2.2.2.2.2.1
      refine wq_C.of pn_X3 (Nat.le_of_ble_eq_true rfl) rfl (vX3_tellsAll_0 ok (tw_ld_n 158 rfl (by decide) ?_))
      rw [hB.2.2.2.2.2.2.1]
      exact ⟨fun c => absurd rfl c, fun _ => ⟨tw_f1.refl _, rfl, hM, hm⟩⟩
    · have h4 := hB.1.2.2.2.2.2.1
      obtain ⟨h6, hx⟩ := hB.1.2.2.2.2.2.2 _ (ru_mem hu)
      obtain ⟨r1, r2⟩ := hB.2.2.2.2.2.2.2 u hu
      refine wq_C.of pn_X3 (Nat.le_of_ble_eq_true rfl) rfl (vX3_tellsAll_0 ok (tw_ld_n 158 rfl (by decide) ?_))
      rw [hB.2.2.2.2.2.2.1, nI_eq (by omega) (by omega)]
      refine ⟨fun _ => tw_ld_n (159 + u) (by rw [nI_lit 159, nI_add]) (by show _ < 346; omega) ?_, fun c => by omega⟩
      rw [r1, nI_eq (by omega) (by omega)]
      refine ⟨fun c => ?_, fun c => ?_⟩
      · obtain ⟨x, hxt⟩ : ∃ x, (zs_ru B u)[t]? = some x := ⟨_, List.getElem?_eq_getElem (by omega)⟩
        obtain ⟨x1, x2⟩ := hx x (List.mem_of_getElem? hxt)
        have hd : (zs_ru B u).drop t = x :: (zs_ru B u).drop (t + 1) := by
          have e := List.drop_eq_getElem_cons (l := zs_ru B u) (i := t) (by omega)
          have e2 := List.getElem?_eq_getElem (l := zs_ru B u) (i := t) (by omega)
          rw [hxt] at e2
          rw [e, ← Option.some.inj e2]
        obtain ⟨r3, r4⟩ := r2 t x hxt
        refine tw_ld_n (163 + 6 * u + t) (by rw [nI_lit 163, nI_lit 6, nI_mul, nI_add, nI_add]) (by show _ < 346; omega) (tw_ld_n (187 + 6 * u + t) (by rw [nI_lit 187, nI_lit 6, nI_mul, nI_add, nI_add]) (by show _ < 346; omega) ?_)
        rw [r3, r4, nI_lit 6, nI_mul, nI_add]
        generalize hk : 6 * st + x.1 = k
        have hk18 : k < 18 := by omega
        refine tw_ld_n k rfl (by show _ < 18; omega) ?_
        rw [hd]
        cases hMk : M k with
        | none =>
          obtain ⟨m1, m2⟩ := mr_none hM hk18 hMk
          rw [m1]
          have hv : mcC S (mcR S (B.2.2.2.drop (u + 1))) (x :: (zs_ru B u).drop (t + 1)) st M = trys (fun to => mcC S (mcR S (B.2.2.2.drop (u + 1))) ((zs_ru B u).drop (t + 1)) to (zs_Mu M k x.2 to)) S 0 := by
            rw [mcC, hk, hMk]
          rw [hv]
          refine ⟨fun _ => tw_st_n k rfl (by show _ < 18; omega) ?_, fun c => absurd rfl c⟩
          generalize hf : (fun to => mcC S (mcR S (B.2.2.2.drop (u + 1))) ((zs_ru B u).drop (t + 1)) to (zs_Mu M k x.2 to)) = f
          have hf' : ∀ to, mcC S (mcR S (B.2.2.2.drop (u + 1))) ((zs_ru B u).drop (t + 1)) to (zs_Mu M k x.2 to) = f to := fun to => by rw [← hf]
          have loop : ∀ m to s', to + m = S → tw_f1 s s' → s'.2.1 38 k = nI x.2 → (∀ j, j < 18 → j ≠ k → s'.2.1 38 j = s.2.1 38 j ∧ s'.2.1 39 j = s.2.1 39 j) → tw_T G l o ad h (n + 1) mX3_tellsAll (tw_qi G o ad h (mc_e s M (trys f m to))) 139 [some (.ref o), some (.int (nI S)), some (.int (nI u)), some (.int (nI t)), none, some (.int (nI k)), none, some (.int (nI to))] [] s' := by
            intro m
            induction m with
            | zero =>
              intro to s' hto hs1 hs2 hs3
              obtain rfl : to = S := by omega
              refine vX3_tellsAll_139 ok ⟨fun _ => tw_st_n k rfl (by show _ < 18; omega) (tw_st_n k rfl (by show _ < 18; omega) ⟨(hs1.pa (by decide)).pa (by decide), rfl, fun j hj => ?_⟩), fun c => absurd (Int32.le_refl _) c⟩
              by_cases e : j = k
              · subst e
                rw [hMk]
                exact ⟨by rw [pa_no (by decide)]; exact pa_eq, pa_eq⟩
              · have := hM j hj
                rw [pa_no (by decide), pa_ne e, pa_ne e, pa_no (by decide), (hs3 j hj e).1, (hs3 j hj e).2]
                exact this
            | succ m ihm =>
              intro to s' hto hs1 hs2 hs3
              refine vX3_tellsAll_139 ok ⟨fun c => ?_, fun _ => tw_st_n k rfl (by show _ < 18; omega) ?_⟩
              · rw [nI_leI (by omega) (by omega)] at c
                omega
              · rw [nI_1]
                have hs1' : tw_f1 s (tw_pa s' 39 k (nI to)) := hs1.pa (by decide)
                have hM' : mr (tw_pa s' 39 k (nI to)) (zs_Mu M k x.2 to) := by
                  intro j hj
                  by_cases e : j = k
                  · subst e
                    simp only [zs_Mu, if_true]
                    exact ⟨by rw [pa_no (by decide)]; exact hs2, pa_eq⟩
                  · simp only [zs_Mu, if_neg e]
                    rw [pa_no (by decide), pa_ne e, (hs3 j hj e).1, (hs3 j hj e).2]
                    exact hM j hj
                have c := ih.2 (tw_pa s' 39 k (nI to)) (zs_Mu M k x.2 to) u (t + 1) to (hB.f1 hs1') hM' (mok_u hm x2 (by omega)) hu (by omega) (by omega) (by omega)
                rw [hf'] at c
                refine tw_ci.use (by omega) c ?_
                intro y s4 hy
                simp only [mc_e] at hy
                obtain ⟨g1, g2⟩ := hy
                cases hft : f to with
                | some M' =>
                  rw [hft] at g2
                  obtain ⟨rfl, g3, g4⟩ := g2
                  refine ⟨fun c => absurd c (by decide), fun _ => ⟨hs1'.trans g1, ?_⟩⟩
                  rw [trys, hft]
                  exact ⟨rfl, g3, g4⟩
                | none =>
                  rw [hft] at g2
                  obtain ⟨rfl, g3⟩ := g2
                  refine ⟨fun _ => ?_, fun c => absurd rfl c⟩
                  have e : trys f (m + 1) to = trys f m (to + 1) := by rw [trys, hft]
                  rw [e, nI_1]
                  refine ihm (to + 1) s4 (by omega) (hs1'.trans g1) ?_ (fun j hj hjk => ?_)
                  · have := g3 k hk18
                    simp only [zs_Mu, if_true] at this
                    exact this.1
                  · have h1 := g3 j hj
                    simp only [zs_Mu, if_neg hjk] at h1
                    have h2 := hM j hj
                    cases hMj : M j with
                    | none => rw [hMj] at h1 h2; exact ⟨h1.1.trans h2.1.symm, h1.2.trans h2.2.symm⟩
                    | some e => rw [hMj] at h1 h2; exact ⟨h1.1.trans h2.1.symm, h1.2.trans h2.2.symm⟩
          refine loop S 0 _ (by omega) ((tw_f1.refl s).pa (by decide)) pa_eq (fun j hj hjk => ⟨pa_ne hjk, by rw [pa_no (by decide)]⟩)
        | some e =>
          obtain ⟨m1, m2⟩ := mr_some hM hk18 hMk
          obtain ⟨e1, e2⟩ := hm k e hMk
          rw [m1]
          have hne : ¬ nI e.1 = 2 := by rw [nI_lit 2, nI_eq (by omega) (by omega)]; omega
          have hv : mcC S (mcR S (B.2.2.2.drop (u + 1))) (x :: (zs_ru B u).drop (t + 1)) st M = if e.1 = x.2 then mcC S (mcR S (B.2.2.2.drop (u + 1))) ((zs_ru B u).drop (t + 1)) e.2 M else none := by
            rw [mcC, hk, hMk]
          rw [hv]
          refine ⟨fun c => absurd c hne, fun _ => tw_ld_n k rfl (by show _ < 18; omega) ?_⟩
          rw [m1, nI_eq (by omega) (by omega)]
          refine ⟨fun c => ?_, fun c => tw_ld_n k rfl (by show _ < 18; omega) ?_⟩
          · rw [if_neg c]; exact ⟨tw_f1.refl _, rfl, hM⟩
          · rw [if_pos c, m2, nI_1]
            refine tw_ci.use (by omega) (ih.2 s M u (t + 1) e.2 hB hM hm hu (by omega) (by omega) (by omega)) ?_
            intro y s4 hy
            cases hq : mcC S (mcR S (B.2.2.2.drop (u + 1))) ((zs_ru B u).drop (t + 1)) e.2 M with
            | some M' =>
              rw [hq] at hy
              obtain ⟨g1, rfl, g3⟩ := hy
              exact ⟨fun c => absurd c (by decide), fun _ => ⟨g1, rfl, g3⟩⟩
            | none =>
              rw [hq] at hy
              obtain ⟨g1, rfl, g3⟩ := hy
              exact ⟨fun _ => ⟨g1, rfl, g3⟩, fun c => absurd rfl c⟩
      · subst c
        rw [List.drop_length]
        have hv : mcC S (mcR S (B.2.2.2.drop (u + 1))) [] st M = mcR S (B.2.2.2.drop (u + 1)) M := by rw [mcC]
        rw [hv, nI_1]
        by_cases hl : u + 1 = B.2.2.2.length
        · rw [hl, List.drop_length]
          refine tw_ci.use (by omega) (ih.1 s M hB hM hm) ?_
          rintro y s4 ⟨g1, rfl, g3⟩
          exact ⟨Or.inr rfl, g1, rfl, g3⟩
        · rw [ru_drop (by omega : u + 1 < B.2.2.2.length)]
          refine tw_ci.use (by omega) (ih.2 s M (u + 1) 0 0 hB hM hm (by omega) (by omega) (by omega) (by omega)) ?_
          intro y s4 hy
          rw [List.drop_zero] at hy
          have hv2 : mcR S (zs_ru B (u + 1) :: B.2.2.2.drop (u + 1 + 1)) M = mcC S (mcR S (B.2.2.2.drop (u + 1 + 1))) (zs_ru B (u + 1)) 0 M := by rw [mcR]
          rw [hv2]
          refine ⟨?_, hy⟩
          obtain ⟨-, hy⟩ := hy
          split at hy
          · exact Or.inr hy.1
          · exact Or.inl hy.1
theorem t_fewestStates (ok : tw_ok G o ad) (hL : L ≤ 6) (hB : tr_b s L B) : wq_C G l 50 0 0 mX3_fewestStates [.ref o] (tw_h G o ad s h) (tw_qi G o ad h fun r s' => tw_f1 s s' ∧ match zs_mach B with
    | some q => r = nI q.1 ∧ mr s' q.2 ∧ mok q.2
    | none => r = -2) := by
  have h4 := hB.1.2.2.2.2.2.1
  generalize hQ : (tw_qi G o ad h fun r s' => tw_f1 s s' ∧ match zs_mach B with
    | some q => r = nI q.1 ∧ mr s' q.2 ∧ mok q.2
    | none => r = -2) = Q
  -- one number of states
  have one : ∀ S s', 1 ≤ S → S ≤ 3 → tw_f1 s s' → (∀ s'' M, tw_f1 s s'' → mcR S B.2.2.2 (fun _ => none) = some M → mr s'' M → mok M → (fun r s' => tw_f1 s s' ∧ match zs_mach B with
    | some q => r = nI q.1 ∧ mr s' q.2 ∧ mok q.2
    | none => r = -2) (nI S) s'') → (∀ s'', tw_f1 s s'' → mcR S B.2.2.2 (fun _ => none) = none → tw_T G l o ad h 50 mX3_fewestStates Q 2 [some (.ref o), some (.int (nI (S + 1))), none] [] s'') → tw_T G l o ad h 50 mX3_fewestStates Q 2 [some (.ref o), some (.int (nI S)), none] [] s' := by
    intro S s' hS1 hS hs yes no
    have fill : ∀ m k s', k + m = 18 → tw_f1 s s' → (∀ j, j < k → s'.2.1 38 j = 2 ∧ s'.2.1 39 j = -1) → tw_T G l o ad h 50 mX3_fewestStates Q 9 [some (.ref o), some (.int (nI S)), some (.int (nI k))] [] s' := by
      intro m
      induction m with
      | zero =>
        intro k s' hk h1 h2
        obtain rfl : k = 18 := by omega
        have hM : mr s' (fun _ => none) := fun j hj => h2 j hj
        have hm : mok (fun _ => none) := fun j e he => by cases he
        subst hQ
        refine vX3_fewestStates_9 ok ⟨fun _ => ?_, fun c => absurd (by decide) c⟩
        by_cases hl : B.2.2.2.length = 0
        · have e0 : B.2.2.2 = [] := List.length_eq_zero_iff.mp hl
          have c := (t_tellsAll (h := h) (l := l) (B := B) (L := L) ok hL hS 49).1 s' (fun _ => none) (hB.f1 h1) hM hm
          rw [hl] at c
          refine tw_ci.use (by omega) c ?_
          rintro y s4 ⟨g1, rfl, g3, g4⟩
          exact ⟨fun c => absurd c (by decide), fun _ => yes s4 _ (h1.trans g1) (by rw [e0]; rfl) g3 g4⟩
        · have c := (t_tellsAll (h := h) (l := l) (B := B) (L := L) ok hL hS 49).2 s' (fun _ => none) 0 0 0 (hB.f1 h1) hM hm (by omega) (by omega) (by omega) (by omega)
          have e : mcC S (mcR S (B.2.2.2.drop (0 + 1))) ((zs_ru B 0).drop 0) 0 (fun _ => none) = mcR S B.2.2.2 (fun _ => none) := by
            have := ru_drop (B := B) (u := 0) (by omega)
            rw [List.drop_zero] at this
            rw [this, mcR]
            rfl
          rw [e] at c
          refine tw_ci.use (by omega) c ?_
          intro y s4 hy
          obtain ⟨g1, g2⟩ := hy
          cases hq : mcR S B.2.2.2 (fun _ => none) with
          | some M =>
            rw [hq] at g2
            obtain ⟨rfl, g3, g4⟩ := g2
            exact ⟨fun c => absurd c (by decide), fun _ => yes s4 M (h1.trans g1) hq g3 g4⟩
          | none =>
            rw [hq] at g2
            obtain ⟨rfl, g3⟩ := g2
            rw [nI_1]
            exact ⟨fun _ => no s4 (h1.trans g1) hq, fun c => absurd rfl c⟩
      | succ m ih =>
        intro k s' hk h1 h2
        have go := ih (k + 1) (tw_pa (tw_pa s' 38 k 2) 39 k (-1)) (by omega) ((h1.pa (by decide)).pa (by decide)) (fun j hj => by
          by_cases e : j = k
          · subst e; exact ⟨by rw [pa_no (by decide)]; exact pa_eq, pa_eq⟩
          · have := h2 j (by omega)
            rw [pa_no (by decide), pa_ne e, pa_ne e, pa_no (by decide)]
            exact this)
        subst hQ
        refine vX3_fewestStates_9 ok ⟨fun c => ?_, fun _ => tw_st_n k rfl (by show _ < 18; omega) (tw_st_n k rfl (by show _ < 18; omega) ?_)⟩
        · rw [nI_lit 18, nI_leI (by omega) (by omega)] at c
          omega
        · rw [nI_1]
          exact go
    have go := fill 18 0 s' (by omega) hs (fun j hj => by omega)
    subst hQ
    refine vX3_fewestStates_2 ok ⟨fun c => ?_, fun _ => go⟩
    rw [nI_lit 3, nI_ltI (by omega) (by omega)] at c
    omega
  refine wq_C.of pn_X3 (Nat.le_of_ble_eq_true rfl) rfl ?_
  have r1 : tw_T G l o ad h 50 mX3_fewestStates Q 2 [some (.ref o), some (.int (nI 1)), none] [] s := by
    refine one 1 s (by omega) (by omega) (tw_f1.refl s) (fun s1 M hf hm1 hM hk => ⟨hf, ?_⟩) (fun s1 hf hm1 => ?_)
    · rw [zs_mach, hm1]
      exact ⟨rfl, hM, hk⟩
    · refine one 2 s1 (by omega) (by omega) hf (fun s2 M hf hm2 hM hk => ⟨hf, ?_⟩) (fun s2 hf hm2 => ?_)
      · have e : zs_mach B = some (2, M) := by rw [zs_mach, hm1]; simp only [hm2]
        rw [e]
        exact ⟨rfl, hM, hk⟩
      · refine one 3 s2 (by omega) (by omega) hf (fun s3 M hf hm3 hM hk => ⟨hf, ?_⟩) (fun s3 hf hm3 => ?_)
        · have e : zs_mach B = some (3, M) := by rw [zs_mach, hm1]; simp only [hm2, hm3]
          rw [e]
          exact ⟨rfl, hM, hk⟩
        · subst hQ
          refine vX3_fewestStates_2 ok ⟨fun _ => ⟨hf, ?_⟩, fun c => absurd (by decide) c⟩
          simp only [zs_mach, hm1, hm2, hm3]
  subst hQ
  exact vX3_fewestStates_0 ok r1
theorem mach_st {B : zs_B} {q : Nat × zs_M} (h : zs_mach B = some q) : 1 ≤ q.1 ∧ q.1 ≤ 3 := by
  unfold zs_mach at h
  split at h
  · cases h; exact ⟨Nat.le_of_ble_eq_true rfl, Nat.le_of_ble_eq_true rfl⟩
  · split at h
    · cases h; exact ⟨Nat.le_of_ble_eq_true rfl, Nat.le_of_ble_eq_true rfl⟩
    · split at h
      · cases h; exact ⟨Nat.le_of_ble_eq_true rfl, Nat.le_of_ble_eq_true rfl⟩
      · cases h
theorem t_memory (ok : tw_ok G o ad) (hL : L ≤ 6) (b : Bool) (hb : s.1 14 = b2i b) (hB : b = true → tr_b s L B) : wq_C G l 51 0 0 mX3_memory [.ref o] (tw_h G o ad s h) (tw_qi G o ad h (tw_e s (if b then (match zs_mach B with
    | some q => nI q.1
    | none => -2) else -1) (if b then 0 else 1))) := by
  refine wq_C.of pn_X3 (Nat.le_of_ble_eq_true rfl) rfl (vX3_memory_0 ok (tw_cv.eq (by decide) (t_good ok) ?_))
  rw [tw_g_14, hb, b2i_0]
  refine ⟨fun c => ?_, fun c => ?_⟩
  · subst c
    exact tw_ci.is (by decide) (t_no ok 1) tw_e_no
  · simp only [Bool.not_eq_false] at c
    subst c
    refine tw_ci.use (by decide) (t_fewestStates (s := tw_g s) (L := L) (B := B) ok hL (hB rfl)) ?_
    rintro x s1 ⟨hf, h2⟩
    simp only [if_true]
    cases hq : zs_mach B with
    | some q => rw [hq] at h2; rw [h2.1]; exact tw_e_f hf
    | none => rw [hq] at h2; rw [h2]; exact tw_e_f hf
theorem t_machine (ok : tw_ok G o ad) {N : Nat} {T : zs_T} (x y z : Int32) (b : Bool) (hb : s.1 14 = b2i b) (hq : b = true → tr_q s L N T) (hB : b = true → tr_b s L B) : wq_C G l 51 0 0 mX3_machine [.ref o, .int x, .int y, .int z] (tw_h G o ad s h) (tw_qi G o ad h (if b && (inB y L && inB x 3) then (match zs_mach B with
    | some q => tw_e s (match q.2 (6 * x.toNatClampNeg + y.toNatClampNeg) with
      | none => -2
      | some e => if z = 0 then nI e.1 else nI e.2) 0
    | none => tw_e s (-1) 6) else tw_e s (-1) 1)) := by
  refine wq_C.of pn_X3 (Nat.le_of_ble_eq_true rfl) rfl (vX3_machine_0 ok (tw_cv.eq (by decide) (t_good ok) (tw_ci.eq (by decide) (t_isLook (s := tw_g s) (L := L) (N := N) (T := T) ok y b ((tw_g_14 s).trans hb) hq) ?_)))
  rw [b2i_0]
  refine ⟨fun c => ?_, fun c => ?_⟩
  · rw [← Bool.and_assoc, c]
    exact tw_ci.is (by decide) (t_no ok 1) tw_e_no
  · simp only [Bool.not_eq_false] at c
    rw [← Bool.and_assoc, c, Bool.true_and]
    simp only [Bool.and_eq_true] at c
    obtain ⟨rfl, c1⟩ := c
    have hL := (hq rfl).2.2.2.2.2.1.2
    refine tw_ci.eq (by decide) (t_within ok 0 x 0 2) ?_
    have e3 := in_range (x := x) (n := 3) (by omega)
    rw [show nI 3 - 1 = 2 from rfl] at e3
    rw [e3, b2i_0]
    refine ⟨fun c => ?_, fun c => ?_⟩
    · simp only [Bool.not_eq_false] at c
      rw [c]
      obtain ⟨k, hk, rfl⟩ := inB_of c
      obtain ⟨j, hj, rfl⟩ := inB_of c1
      rw [nI_clamp (by omega), nI_clamp (by omega)]
      refine tw_ci.use (by decide) (t_fewestStates (s := tw_g s) (L := L) (B := B) ok hL (hB rfl)) ?_
      rintro w s1 ⟨hf, h2⟩
      simp only [if_true]
      cases hm : zs_mach B with
      | some q =>
        rw [hm] at h2
        obtain ⟨rfl, h3, h4⟩ := h2
        obtain ⟨m1, m2⟩ := mach_st hm
        refine ⟨fun _ => tw_ld_n (6 * k + j) (by rw [nI_lit 6, nI_mul, nI_add]) (by show _ < 18; omega) ?_, fun c => ?_⟩
        · cases hM : q.2 (6 * k + j) with
          | none =>
            obtain ⟨g1, g2⟩ := mr_none h3 (by omega) hM
            rw [g1]
            simp only [hM]
            exact ⟨fun c => absurd trivial c, fun _ => tw_e_f hf⟩
          | some e =>
            obtain ⟨g1, g2⟩ := mr_some h3 (by omega) hM
            obtain ⟨e1, e2⟩ := h4 _ _ hM
            rw [g1]
            refine ⟨fun _ => ⟨fun c => tw_ld_n (6 * k + j) (by rw [nI_lit 6, nI_mul, nI_add]) (by show _ < 18; omega) ?_, fun c => tw_ld_n (6 * k + j) (by rw [nI_lit 6, nI_mul, nI_add]) (by show _ < 18; omega) ?_⟩, fun c => ?_⟩
            · rw [g1]; simp only [hM, if_pos c]; exact tw_e_f hf
            · rw [g2]; simp only [hM, if_neg c]; exact tw_e_f hf
            · rw [nI_lit 2, nI_eq (by omega) (by omega)] at c
              omega
        · exfalso
          have : ∀ k, k < 4 → ¬ nI k = -2 := by decide
          exact this _ (by omega) c
      | none =>
        rw [hm] at h2
        subst h2
        exact ⟨fun c => absurd rfl c, fun _ => tw_ci.is (by decide) (t_no ok 6) (tw_e_no' hf)⟩
    · rw [c]
      exact tw_ci.is (by decide) (t_no ok 1) tw_e_no
end TW13
