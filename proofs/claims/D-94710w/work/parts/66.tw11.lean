/-! CONTRACTS of the reference: corners -/
set_option maxRecDepth 100000
theorem pa_eq {s : tw_S} {k i : Nat} {x : Int32} : (tw_pa s k i x).2.1 k i = x := by simp [tw_pa, upd]
theorem pa_ne {s : tw_S} {k i j : Nat} {x : Int32} (h : j ≠ i) : (tw_pa s k i x).2.1 k j = s.2.1 k j := by simp [tw_pa, upd, h]
theorem pa_no {s : tw_S} {k i m : Nat} {x : Int32} (h : m ≠ k) : (tw_pa s k i x).2.1 m = s.2.1 m := by simp [tw_pa, h]
theorem pi_eq {s : tw_S} {k : Nat} {x : Int32} : (tw_pi s k x).1 k = x := by simp [tw_pi]
theorem pi_ne {s : tw_S} {k j : Nat} {x : Int32} (h : j ≠ k) : (tw_pi s k x).1 j = s.1 j := by simp [tw_pi, h]
/-- nothing changed that a desk keeps, nor trouble -/
def tw_f1 (s s' : tw_S) : Prop := tw_fr s s' ∧ s'.1 11 = s.1 11
theorem tw_f1.refl (s : tw_S) : tw_f1 s s := ⟨tw_fr.refl s, rfl⟩
theorem tw_f1.trans {a b c : tw_S} (h1 : tw_f1 a b) (h2 : tw_f1 b c) : tw_f1 a c := ⟨h1.1.trans h2.1, h2.2.trans h1.2⟩
theorem tw_f1.pi {a b : tw_S} (h1 : tw_f1 a b) {k : Nat} {x : Int32} (hk : k ∉ [2, 9, 10, 14, 24, 25, 26, 11]) : tw_f1 a (tw_pi b k x) := by
  simp only [List.mem_cons, List.not_mem_nil, or_false, not_or] at hk
  refine h1.trans ⟨tw_fr_pi (by simp only [List.mem_cons, List.not_mem_nil, or_false]; omega), pi_ne (by omega)⟩
theorem tw_f1.pa {a b : tw_S} (h1 : tw_f1 a b) {k i : Nat} {x : Int32} (hk : k ∉ [1, 15, 17, 19, 20, 21, 22, 23]) : tw_f1 a (tw_pa b k i x) := by
  refine h1.trans ⟨⟨fun _ _ => rfl, fun j hj => pa_no (fun e => hk (by rw [← e]; exact hj))⟩, rfl⟩
theorem tw_f1.pl {a b : tw_S} (h1 : tw_f1 a b) {i : Nat} {x : Int64} : tw_f1 a (tw_pl b i x) := h1.trans ⟨⟨fun _ _ => rfl, fun _ _ => rfl⟩, rfl⟩
theorem tw_f1.pv {a b : tw_S} (h1 : tw_f1 a b) {x : Int64} : tw_f1 a (tw_pv b x) := h1.trans ⟨⟨fun _ _ => rfl, fun _ _ => rfl⟩, rfl⟩
theorem tw_f1.r {a b : tw_S} (h : tw_f1 a b) : b.2.1 15 = a.2.1 15 := h.1.2 15 (by decide)
theorem tr_b.f1 {s s' : tw_S} {L : Nat} {B : zs_B} (h : tr_b s L B) (hf : tw_f1 s s') : tr_b s' L B := by
  unfold tr_b at *
  rw [hf.r]
  exact h
theorem tr_q.f1 {s s' : tw_S} {L N : Nat} {T : zs_T} (h : tr_q s L N T) (hf : tw_f1 s s') : tr_q s' L N T := by
  unfold tr_q at *
  rw [hf.r, hf.1.2 17 (by decide)]
  exact h
/-- which rays are square to a ray, as bits -/
def sm (B : zs_B) (a : Nat) : Nat := bs (re B a) B.2.2.1.length
theorem sm_lt {L : Nat} {B : zs_B} (h : zs_bok L B) (a : Nat) : sm B a < 2 ^ 18 := Nat.lt_of_lt_of_le (bs_lt _ _) (pow_9 h.2.2.2.1)
theorem sm_bit {B : zs_B} {a b : Nat} (hb : b < B.2.2.1.length) : (sm B a).testBit b = re B a b := by unfold sm; rw [bs_bit]; simp [hb]
abbrev zs_cor (B : zs_B) : List Nat := cor (re B) B.2.2.1.length
/-- the corners as the reference lays them -/
def tr_c (s : tw_S) (B : zs_B) : Prop := s.1 34 = nI (zs_cor B).length ∧ (∀ k x, (zs_cor B)[k]? = some x → s.2.1 32 k = nI x) ∧ ∀ a, a < B.2.2.1.length → s.2.1 33 a = nI (sm B a)
section TW11
variable {G : wq_G} {l : Launch} {o : Nat} {ad : Nat → Nat} {h : wq_H} {s : tw_S} {L : Nat} {B : zs_B}
def cr_i (s : tw_S) (B : zs_B) (acc : List Nat) (s' : tw_S) : Prop := tw_f1 s s' ∧ s'.1 34 = nI acc.length ∧ (∀ k x, acc[k]? = some x → s'.2.1 32 k = nI x) ∧ ∀ a, a < B.2.2.1.length → s'.2.1 33 a = nI (sm B a)
theorem cr_push {acc : List Nat} {s' : tw_S} {x : Nat} (hI : cr_i s B acc s') : cr_i s B (acc ++ [x]) (tw_pi (tw_pa s' 32 acc.length (nI x)) 34 (nI (acc.length + 1))) := by
  obtain ⟨h1, h2, h3, h4⟩ := hI
  refine ⟨(h1.pa (by decide)).pi (by decide), by rw [pi_eq]; simp, fun k y hk => ?_, fun a ha => ?_⟩
  · show (tw_pa s' 32 acc.length (nI x)).2.1 32 k = nI y
    by_cases e : k = acc.length
    · subst e
      rw [pa_eq]
      simp at hk
      rw [hk]
    · rw [pa_ne e]
      refine h3 k y ?_
      have hl := (List.getElem?_eq_some_iff.mp hk).1
      simp at hl
      rw [List.getElem?_append_left (by omega)] at hk
      exact hk
  · show (tw_pa s' 32 acc.length (nI x)).2.1 33 a = _
    rw [pa_no (by decide)]
    exact h4 a ha
theorem t_layCorners (ok : tw_ok G o ad) (hB : tr_b s L B) : wq_C G l 1 0 0 mX3_layCorners [.ref o] (tw_h G o ad s h) (tw_qv G o ad h fun s' => tw_f1 s s' ∧ tr_c s' B) := by
  have h18 := hB.1.2.2.2.1
  have h400 : (zs_cor B).length ≤ 400 := cor_le hB.1 (re B) (fun _ _ h => h) (re_comm B)
  have h85 : ∀ s', tw_f1 s s' → s'.2.1 15 85 = nI B.2.2.1.length := fun s' hf => (hB.f1 hf).2.2.2.2.1
  have p18 : ∀ a, sm B a < 2 ^ 18 := fun a => sm_lt hB.1 a
  generalize hQ : (tw_qv G o ad h fun s' => tw_f1 s s' ∧ tr_c s' B) = Q
  have loopD : ∀ a b c, a < B.2.2.1.length → b < B.2.2.1.length → c < B.2.2.1.length → ∀ m d acc s', d + m = B.2.2.1.length → cr_i s B acc s' → (acc ++ cD (re B) a b c m d).length ≤ 400 → (∀ s'', cr_i s B (acc ++ cD (re B) a b c m d) s'' → tw_T G l o ad h 1 mX3_layCorners Q 128 [some (.ref o), some (.int (nI a)), some (.int (nI b)), some (.int (nI (c + 1))), none] [] s'') → tw_T G l o ad h 1 mX3_layCorners Q 167 [some (.ref o), some (.int (nI a)), some (.int (nI b)), some (.int (nI c)), some (.int (nI d))] [] s' := by
    intro a b c ha hb hc m
    induction m with
    | zero =>
      intro d acc s' hd hI hle go
      obtain rfl : d = B.2.2.1.length := by omega
      have go := go s' (by simpa [cD] using hI)
      subst hQ
      refine vX3_layCorners_167 ok (tw_ld_n 85 rfl (by decide) ?_)
      rw [h85 s' hI.1, nI_1]
      exact ⟨fun _ => go, fun c => absurd (Int32.le_refl _) c⟩
    | succ m ih =>
      intro d acc s' hd hI hle go
      simp only [cD] at hle go
      have step := ih (d + 1) (acc ++ (if (re B a d && re B b d && re B c d) = true then [mk4 a b c d] else []))
      clear ih
      subst hQ
      refine vX3_layCorners_167 ok (tw_ld_n 85 rfl (by decide) ?_)
      rw [h85 s' hI.1]
      refine ⟨fun c => ?_, fun _ => tw_ld_n a rfl (by show _ < 18; omega) (tw_ld_n b rfl (by show _ < 18; omega) (tw_ld_n c rfl (by show _ < 18; omega) ?_))⟩
      · rw [nI_leI (by omega) (by omega)] at c
        omega
      · rw [hI.2.2.2 a ha, hI.2.2.2 b hb, hI.2.2.2 c hc, nI_and, nI_and]
        have q1 := p18 a
        have hlt : sm B a &&& sm B b &&& sm B c < 2 ^ 31 := Nat.lt_of_le_of_lt Nat.and_le_left (Nat.lt_of_le_of_lt Nat.and_le_left (by omega))
        refine tw_ci.eq (by decide) (t_has ok 0 hlt (by omega)) ?_
        rw [Nat.testBit_and, Nat.testBit_and, sm_bit (by omega), sm_bit (by omega), sm_bit (by omega), b2i_0, nI_1]
        refine ⟨fun c1 => ?_, fun c1 => ?_⟩
        · simp only [Bool.not_eq_false] at c1
          rw [if_pos c1] at hle step
          have hal : acc.length < 400 := by simp at hle; omega
          rw [hI.2.1]
          refine tw_st_n acc.length rfl (by show _ < 3060; omega) ?_
          rw [nI_shl (by omega), nI_shl (by omega), nI_shl (by omega), nI_shl (by omega), nI_or, nI_or, nI_or]
          show tw_T G l o ad h 1 mX3_layCorners _ 167 _ _ (tw_pi (tw_pa s' 32 acc.length (nI (mk4 a b c d))) 34 (s'.1 34 + 1))
          rw [hI.2.1, nI_1]
          refine step _ (by omega) (cr_push hI) (by simpa using hle) (fun s'' h'' => go s'' ?_)
          rw [if_pos c1, ← List.append_assoc]
          exact h''
        · rw [if_neg (by rw [c1]; decide)] at hle step
          refine step _ (by omega) (by simpa using hI) (by simpa using hle) (fun s'' h'' => go s'' ?_)
          rw [if_neg (by rw [c1]; decide)]
          simpa using h''
  have loopC : ∀ a b, a < B.2.2.1.length → b < B.2.2.1.length → ∀ m c acc s', c + m = B.2.2.1.length → cr_i s B acc s' → (acc ++ cC (re B) B.2.2.1.length a b m c).length ≤ 400 → (∀ s'', cr_i s B (acc ++ cC (re B) B.2.2.1.length a b m c) s'' → tw_T G l o ad h 1 mX3_layCorners Q 97 [some (.ref o), some (.int (nI a)), some (.int (nI (b + 1))), none, none] [] s'') → tw_T G l o ad h 1 mX3_layCorners Q 128 [some (.ref o), some (.int (nI a)), some (.int (nI b)), some (.int (nI c)), none] [] s' := by
    intro a b ha hb m
    induction m with
    | zero =>
      intro d acc s' hd hI hle go
      obtain rfl : d = B.2.2.1.length := by omega
      have go := go s' (by simpa [cC] using hI)
      subst hQ
      refine vX3_layCorners_128 ok (tw_ld_n 85 rfl (by decide) ?_)
      rw [h85 s' hI.1, nI_1]
      exact ⟨fun _ => go, fun c => absurd (Int32.le_refl _) c⟩
    | succ m ih =>
      intro d acc s' hd hI hle go
      simp only [cC] at hle go
      have step := ih (d + 1)
      have lD := loopD a b d ha hb (by omega) (B.2.2.1.length - (d + 1)) (d + 1) acc s' (by omega) hI
      clear ih
      subst hQ
      refine vX3_layCorners_128 ok (tw_ld_n 85 rfl (by decide) ?_)
      rw [h85 s' hI.1]
      refine ⟨fun c => ?_, fun _ => tw_ld_n a rfl (by show _ < 18; omega) (tw_ld_n b rfl (by show _ < 18; omega) ?_)⟩
      · rw [nI_leI (by omega) (by omega)] at c
        omega
      · rw [hI.2.2.2 a ha, hI.2.2.2 b hb, nI_and]
        have q1 := p18 a
        have hlt : sm B a &&& sm B b < 2 ^ 31 := Nat.lt_of_le_of_lt Nat.and_le_left (by omega)
        refine tw_ci.eq (by decide) (t_has ok 0 hlt (by omega)) ?_
        rw [Nat.testBit_and, sm_bit (by omega), sm_bit (by omega), b2i_0, nI_1]
        refine ⟨fun c1 => ?_, fun c1 => ?_⟩
        · simp only [Bool.not_eq_false] at c1
          rw [if_pos c1] at hle
          rw [← List.append_assoc] at hle
          refine lD (by simp at hle ⊢; omega) (fun s'' h'' => step _ s'' (by omega) h'' hle (fun s3 h3 => go s3 ?_))
          rw [if_pos c1, ← List.append_assoc]
          exact h3
        · rw [if_neg (by rw [c1]; decide)] at hle
          refine step acc s' (by omega) hI (by simpa using hle) (fun s'' h'' => go s'' ?_)
          rw [if_neg (by rw [c1]; decide)]
          simpa using h''
  have loopB : ∀ a, a < B.2.2.1.length → ∀ m b acc s', b + m = B.2.2.1.length → cr_i s B acc s' → (acc ++ cB (re B) B.2.2.1.length a m b).length ≤ 400 → (∀ s'', cr_i s B (acc ++ cB (re B) B.2.2.1.length a m b) s'' → tw_T G l o ad h 1 mX3_layCorners Q 82 [some (.ref o), some (.int (nI (a + 1))), none, none, none] [] s'') → tw_T G l o ad h 1 mX3_layCorners Q 97 [some (.ref o), some (.int (nI a)), some (.int (nI b)), none, none] [] s' := by
    intro a ha m
    induction m with
    | zero =>
      intro d acc s' hd hI hle go
      obtain rfl : d = B.2.2.1.length := by omega
      have go := go s' (by simpa [cB] using hI)
      subst hQ
      refine vX3_layCorners_97 ok (tw_ld_n 85 rfl (by decide) ?_)
      rw [h85 s' hI.1, nI_1]
      exact ⟨fun _ => go, fun c => absurd (Int32.le_refl _) c⟩
    | succ m ih =>
      intro d acc s' hd hI hle go
      simp only [cB] at hle go
      have step := ih (d + 1)
      have lC := loopC a d ha (by omega) (B.2.2.1.length - (d + 1)) (d + 1) acc s' (by omega) hI
      clear ih
      subst hQ
      refine vX3_layCorners_97 ok (tw_ld_n 85 rfl (by decide) ?_)
      rw [h85 s' hI.1]
      refine ⟨fun c => ?_, fun _ => tw_ld_n a rfl (by show _ < 18; omega) ?_⟩
      · rw [nI_leI (by omega) (by omega)] at c
        omega
      · rw [hI.2.2.2 a ha]
        have q1 := p18 a
        refine tw_ci.eq (by decide) (t_has ok 0 (by omega) (by omega)) ?_
        rw [sm_bit (by omega), b2i_0, nI_1]
        refine ⟨fun c1 => ?_, fun c1 => ?_⟩
        · simp only [Bool.not_eq_false] at c1
          rw [if_pos c1] at hle
          rw [← List.append_assoc] at hle
          refine lC (by simp at hle ⊢; omega) (fun s'' h'' => step _ s'' (by omega) h'' hle (fun s3 h3 => go s3 ?_))
          rw [if_pos c1, ← List.append_assoc]
          exact h3
        · rw [if_neg (by rw [c1]; decide)] at hle
          refine step acc s' (by omega) hI (by simpa using hle) (fun s'' h'' => go s'' ?_)
          rw [if_neg (by rw [c1]; decide)]
          simpa using h''
  have loopA : ∀ m a acc s', a + m = B.2.2.1.length → cr_i s B acc s' → acc ++ cA (re B) B.2.2.1.length m a = zs_cor B → tw_T G l o ad h 1 mX3_layCorners Q 82 [some (.ref o), some (.int (nI a)), none, none, none] [] s' := by
    intro m
    induction m with
    | zero =>
      intro d acc s' hd hI he
      obtain rfl : d = B.2.2.1.length := by omega
      subst hQ
      refine vX3_layCorners_82 ok (tw_ld_n 85 rfl (by decide) ?_)
      rw [h85 s' hI.1]
      refine ⟨fun _ => ⟨hI.1, ?_⟩, fun c => absurd (Int32.le_refl _) c⟩
      have e : acc = zs_cor B := by simpa [cA] using he
      refine ⟨?_, ?_, hI.2.2.2⟩
      · rw [← e]; exact hI.2.1
      · rw [← e]; exact hI.2.2.1
    | succ m ih =>
      intro d acc s' hd hI he
      simp only [cA] at he
      rw [← List.append_assoc] at he
      have lB := loopB d (by omega) (B.2.2.1.length - (d + 1)) (d + 1) acc s' (by omega) hI (by
        have := congrArg List.length he
        simp at this ⊢
        omega) (fun s'' h'' => ih (d + 1) _ s'' (by omega) h'' he)
      subst hQ
      refine vX3_layCorners_82 ok (tw_ld_n 85 rfl (by decide) ?_)
      rw [h85 s' hI.1]
      refine ⟨fun c => ?_, fun _ => by rw [nI_1]; exact lB⟩
      rw [nI_leI (by omega) (by omega)] at c
      omega
  have sq1 : ∀ m a s', a + m = B.2.2.1.length → tw_f1 s s' → s'.1 34 = 0 → (∀ k, k < a → s'.2.1 33 k = nI (sm B k)) → tw_T G l o ad h 1 mX3_layCorners Q 7 [some (.ref o), some (.int (nI a)), none, none, none] [] s' := by
    intro m
    induction m with
    | zero =>
      intro a s' ha hf h34 hs
      obtain rfl : a = B.2.2.1.length := by omega
      have lA := loopA B.2.2.1.length 0 [] s' (by omega) ⟨hf, h34, fun k x hk => by simp at hk, hs⟩ rfl
      subst hQ
      refine vX3_layCorners_7 ok (tw_ld_n 85 rfl (by decide) ?_)
      rw [h85 s' hf]
      exact ⟨fun _ => lA, fun c => absurd (Int32.le_refl _) c⟩
    | succ m ih =>
      intro a s' ha hf h34 hs
      have inner : ∀ n b s', b + n = B.2.2.1.length → tw_f1 s s' → s'.1 34 = 0 → (∀ k, k < a → s'.2.1 33 k = nI (sm B k)) → s'.2.1 33 a = nI (bs (re B a) b) → tw_T G l o ad h 1 mX3_layCorners Q 27 [some (.ref o), some (.int (nI a)), some (.int (nI b)), none, none] [] s' := by
        intro n
        induction n with
        | zero =>
          intro b s' hb hf h34 hs hsa
          obtain rfl : b = B.2.2.1.length := by omega
          have go := ih (a + 1) s' (by omega) hf h34 (fun k hk => by
            by_cases e : k = a
            · rw [e]; exact hsa
            · exact hs k (by omega))
          subst hQ
          refine vX3_layCorners_27 ok (tw_ld_n 85 rfl (by decide) ?_)
          rw [h85 s' hf, nI_1]
          exact ⟨fun _ => go, fun c => absurd (Int32.le_refl _) c⟩
        | succ n ihn =>
          intro b s' hb hf h34 hs hsa
          have hbs := bs_lt (re B a) b
          have hb31 : 2 ^ b < 2 ^ 31 := Nat.pow_lt_pow_right (by omega) (by omega)
          have go : ∀ x, x = nI (bs (re B a) (b + 1)) → tw_T G l o ad h 1 mX3_layCorners Q 27 [some (.ref o), some (.int (nI a)), some (.int (nI (b + 1))), none, none] [] (tw_pa s' 33 a x) := by
            intro x hx
            refine ihn (b + 1) _ (by omega) (hf.pa (by decide)) h34 (fun k hk => ?_) ?_
            · rw [pa_ne (by omega)]; exact hs k hk
            · rw [pa_eq, hx]
          subst hQ
          refine vX3_layCorners_27 ok (tw_ld_n 85 rfl (by decide) ?_)
          rw [h85 s' hf]
          refine ⟨fun c => ?_, fun _ => tw_ld_n a rfl (by show _ < 18; omega) ?_⟩
          · rw [nI_leI (by omega) (by omega)] at c
            omega
          · rw [hsa, nI_eq (by omega) (by omega), nI_1]
            have or0 : ∀ y : Nat, nI y ||| 0 = nI y := fun y => Int32.or_zero
            refine ⟨fun c => tw_st_n a rfl (by show _ < 18; omega) (go _ ?_), fun c => tw_ci.eq (by decide) (t_areSquare ok (hB.f1 hf) (by omega) (by omega)) ?_⟩
            · rw [or0]
              have e : re B a b = false := by rw [c]; exact re_self B b
              simp [bs, e]
            · rw [b2i_0]
              refine ⟨fun c2 => tw_st_n a rfl (by show _ < 18; omega) (go _ ?_), fun c2 => tw_st_n a rfl (by show _ < 18; omega) (go _ ?_)⟩
              · rw [or0]
                have e : re B a b = false := by simp only [re, c2, Bool.and_false]
                simp [bs, e]
              · simp only [Bool.not_eq_false] at c2
                have e : re B a b = true := by simp [re, c2, c]
                rw [nI_shl (by omega), nI_or, or_pow hbs]
                simp [bs, e]
      have go := fun s1 a1 a2 a3 a4 => inner B.2.2.1.length 0 s1 (by omega) a1 a2 a3 a4
      subst hQ
      refine vX3_layCorners_7 ok (tw_ld_n 85 rfl (by decide) ?_)
      rw [h85 s' hf]
      refine ⟨fun c => ?_, fun _ => tw_st_n a rfl (by show _ < 18; omega) (go _ (hf.pa (by decide)) h34 (fun k hk => ?_) ?_)⟩
      · rw [nI_leI (by omega) (by omega)] at c
        omega
      · rw [pa_ne (by omega)]; exact hs k hk
      · rw [pa_eq]; rfl
  have go := sq1 B.2.2.1.length 0 (tw_pi s 34 0) (by omega) ((tw_f1.refl s).pi (by decide)) pi_eq (fun k hk => by omega)
  subst hQ
  exact wq_C.of pn_X3 (Nat.le_of_ble_eq_true rfl) rfl (vX3_layCorners_0 ok go)
theorem t_corners (ok : tw_ok G o ad) (b : Bool) (hb : s.1 14 = b2i b) (hB : b = true → tr_b s L B) : wq_C G l 2 0 0 mX3_corners [.ref o] (tw_h G o ad s h) (tw_qi G o ad h (tw_e s (if b then nI (zs_cor B).length else -1) (if b then 0 else 1))) := by
  refine wq_C.of pn_X3 (Nat.le_of_ble_eq_true rfl) rfl (vX3_corners_0 ok (tw_cv.eq (by decide) (t_good ok) ?_))
  rw [tw_g_14, hb, b2i_0]
  refine ⟨fun c => ?_, fun c => ?_⟩
  · simp only [Bool.not_eq_false] at c
    subst c
    refine tw_cv.use (by decide) (t_layCorners (s := tw_g s) (L := L) (B := B) ok (hB rfl)) ?_
    rintro s' ⟨hf, h1, -⟩
    rw [h1]
    exact ⟨rfl, (tw_g_fr s).trans hf.1, hf.2⟩
  · subst c
    exact tw_ci.is (by decide) (t_no ok 1) tw_e_no
theorem t_allRays (ok : tw_ok G o ad) (hB : tr_b s L B) : wq_C G l 0 0 0 mX3_allRays [.ref o] (tw_h G o ad s h) (tw_qi G o ad h fun r s' => r = nI (2 ^ B.2.2.1.length - 1) ∧ s' = s) := by
  have h18 := hB.1.2.2.2.1
  refine wq_C.of pn_X3 (Nat.le_of_ble_eq_true rfl) rfl (vX3_allRays_0 ok (tw_ld_n 85 rfl (by decide) ?_))
  rw [hB.2.2.2.2.1, nI_shl (by omega)]
  refine ⟨?_, rfl⟩
  have hp := Nat.two_pow_pos B.2.2.1.length
  have := nI_pred (2 ^ B.2.2.1.length - 1)
  rwa [show 2 ^ B.2.2.1.length - 1 + 1 = 2 ^ B.2.2.1.length by omega] at this
end TW11
