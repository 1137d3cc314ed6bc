/-! CONTRACTS of the component: machines -/
set_option maxRecDepth 100000
theorem pn_X16 : plainName RX16 = true := by decide +kernel
def mk2 (M : zs_M) (k : Nat) (x y : Int32) : Prop := match M k with
  | none => x = -1 ∧ y = -1
  | some e => x = nI e.1 ∧ y = nI e.2
theorem mk2_n {M : zs_M} {k : Nat} {x y : Int32} (h : mk2 M k x y) (e : M k = none) : x = -1 ∧ y = -1 := by
  unfold mk2 at h; rw [e] at h; exact h
theorem mk2_s {M : zs_M} {k : Nat} {x y : Int32} {q : Nat × Nat} (h : mk2 M k x y) (e : M k = some q) : x = nI q.1 ∧ y = nI q.2 := by
  unfold mk2 at h; rw [e] at h; exact h
/-- the machine as it lies there -/
def me_at (G : wq_G) (h : wq_H) (a ru S te ne : Nat) (M : zs_M) : Prop := h a = some (.inr (14, [.ref ru, .int (nI S), .ref te, .ref ne])) ∧ ∃ f g : Nat → Int32, h te = some (.inl (G.2.2.1 0, 18, .inl f)) ∧ h ne = some (.inl (G.2.2.1 0, 18, .inl g)) ∧ ∀ k, k < 18 → mk2 M k (f k) (g k)
def me_e (G : wq_G) (h : wq_H) (a ru S te ne : Nat) (M : zs_M) (v : Option zs_M) : Int32 → wq_H → Prop := fun r h' => hx (fun b => b = te ∨ b = ne) h h' ∧ match v with
  | some M' => r = 1 ∧ me_at G h' a ru S te ne M' ∧ mok M'
  | none => r = 0 ∧ me_at G h' a ru S te ne M
section CP12
variable {G : wq_G} {l : Launch} {d C S : Nat} {h : wq_H} {Z : Nat → Nat → Prop} {P : Nat → Prop} {x : Nat} {D : zs_D} {L N : Nat} {B : zs_B}
theorem nI_ne1 {k : Nat} (h : k < 2 ^ 31) : ¬ nI k = -1 := by
  intro e
  have := nI_pos h
  rw [e] at this
  exact this (by decide)
theorem runs_hx {ru te ne : Nat} {h1 : wq_H} (hk : kon G h) (hP : ∀ b, P b → G.1 ≤ b) (zt : G.1 ≤ te) (zn : G.1 ≤ ne) (pt : ¬ P te) (pn : ¬ P ne) (rr : lo_at G h P ru (rn_at G h P) B.2.2.2) (q : hx (fun b => b = te ∨ b = ne) h h1) : lo_at G h1 P ru (rn_at G h1 P) B.2.2.2 := by
  have hf : ∀ b e, P b → h b = some e → h1 b = some e := fun b e hb he => q.1 b e (fun z => by
    rcases z with z | z
    · rw [z] at hb; exact pt hb
    · rw [z] at hb; exact pn hb) he
  refine rr.frame (hk.hx q fun b hb => by rcases hb with z | z <;> rw [z] <;> assumption) hf ?_
  rintro a q ⟨w1, la, aa, f, g, w2, w3, w4, w5, w6, w7⟩
  exact ⟨w1, la, aa, f, g, hf _ _ w1 w2, w3, w4, hf _ _ w3 w5, hf _ _ w4 w6, w7⟩
theorem c_goes {a ru S te ne : Nat} (hL : L ≤ 6) (hB : zs_bok L B) (hS : S ≤ 3) (zt : G.1 ≤ te) (zn : G.1 ≤ ne) (tn : te ≠ ne) (pt : ¬ P te) (pn : ¬ P ne) (hP : ∀ b, P b → G.1 ≤ b) : ∀ (n : Nat), (∀ (h : wq_H) (M : zs_M), kon G h → lo_at G h P ru (rn_at G h P) B.2.2.2 → me_at G h a ru S te ne M → mok M → wq_C G l (2 * n + 3) 0 0 mX16_goes [.ref a, .int (nI B.2.2.2.length), .int 0, .int 0] h (wq_qi (me_e G h a ru S te ne M (some M)))) ∧ ∀ (h : wq_H) (M : zs_M) (u t st : Nat), kon G h → lo_at G h P ru (rn_at G h P) B.2.2.2 → me_at G h a ru S te ne M → mok M → u < B.2.2.2.length → t ≤ (zs_ru B u).length → st < 3 → 8 * (B.2.2.2.length - u) + 8 - t ≤ n → wq_C G l (2 * n + 3) 0 0 mX16_goes [.ref a, .int (nI u), .int (nI t), .int (nI st)] h (wq_qi (me_e G h a ru S te ne M (mcC S (mcR S (B.2.2.2.drop (u + 1))) ((zs_ru B u).drop t) st M))) := by
  have h4 := hB.2.2.2.2.2.1
  have base : ∀ (d : Nat) (h : wq_H) (M : zs_M), 0 < d → lo_at G h P ru (rn_at G h P) B.2.2.2 → me_at G h a ru S te ne M → mok M → wq_C G l d 0 0 mX16_goes [.ref a, .int (nI B.2.2.2.length), .int 0, .int 0] h (wq_qi (me_e G h a ru S te ne M (some M))) := by
    intro d h M hd rr hM hm
    exact wq_C.of pn_X16 (Nat.le_of_ble_eq_true rfl) rfl (vX16_goes_0 (gR1 hM.1 rfl (lo_size rr hd ⟨fun c => absurd rfl c, fun _ => ⟨hx.refl, rfl, hM, hm⟩⟩)))
  intro n
  induction n with
  | zero =>
    refine ⟨fun h M hk rr hM hm => base _ h M (by omega) rr hM hm, fun h M u t st hk rr hM hm hu ht hst hn => ?_⟩
    have := (hB.2.2.2.2.2.2 _ (ru_mem hu)).1
    omega
  | succ n ih =>
    refine ⟨fun h M hk rr hM hm => base _ h M (by omega) rr hM hm, fun h M u t st hk rr hM hm hu ht hst hn => ?_⟩
    obtain ⟨h6, hx6⟩ := hB.2.2.2.2.2.2 _ (ru_mem hu)
    obtain ⟨hMa, f, g, hMt, hMn, hMk⟩ := id hM
    have nta : a ≠ te := by rintro rfl; rw [hMa] at hMt; cases hMt
    have nna : a ≠ ne := by rintro rfl; rw [hMa] at hMn; cases hMn
    refine wq_C.of pn_X16 (Nat.le_of_ble_eq_true rfl) rfl (vX16_goes_0 (gR1 hMa rfl (lo_size rr (by omega) ⟨fun _ => gR1 hMa rfl (lo_get rr (ru_get hu) (by omega) ?_), fun c => ?_⟩)))
    · rintro p ⟨w1, la, aa, fl, fa, w2, w3, w4, w5, w6, w7⟩
      refine ⟨p, 12, _, rfl, by decide, w2, gI1 w2 rfl ⟨fun c => ?_, fun c => ⟨_, hMa, ?_⟩⟩⟩
      · rw [nI_eq (by omega) (by omega)] at c
        obtain ⟨y, hyt⟩ : ∃ y, (zs_ru B u)[t]? = some y := ⟨_, List.getElem?_eq_getElem (by omega)⟩
        obtain ⟨x1, x2⟩ := hx6 y (List.mem_of_getElem? hyt)
        have hd : (zs_ru B u).drop t = y :: (zs_ru B u).drop (t + 1) := by
          have e := List.drop_eq_getElem_cons (l := zs_ru B u) (i := t) (by omega)
          have e2 := List.getElem?_eq_getElem (l := zs_ru B u) (i := t) (by omega)
          rw [hyt] at e2
          rw [e, ← Option.some.inj e2]
        obtain ⟨r3, r4⟩ := w7 t y hyt
        refine gR1 w2 rfl (ai_n w5 t rfl (by omega) (by omega) ?_)
        rw [r3, nI_lit 6, nI_mul, nI_add]
        generalize hkk : 6 * st + y.1 = k
        have hk18 : k < 18 := by omega
        have nlt : ∀ b, P b → b ≠ te ∧ b ≠ ne := fun b hb => ⟨fun z => pt (by rw [← z]; exact hb), fun z => pn (by rw [← z]; exact hb)⟩
        -- behind the first look: the answer is laid down
        have fill : ∀ z0 : Int32, (∀ h2, h2 = wq_set h te (.inl (G.2.2.1 0, 18, .inl (upd f k (nI y.2)))) → (z0 = 0 → wq_gR h2 a [(14, 3)] (fun a5 => wq_ai G h2 a5 (nI k) (fun y6 => ∃ fs11 : List Value, h2 a = some (.inr (14, fs11)) ∧ (wq_ci G l (2 * (n + 1) + 3) 0 0 mX16_goes [.ref a, .int (nI u), .int (nI t + 1), .int y6] h2 (fun y10 h7 C8 S9 => (z0 = 0 → narrow .boolean (.int y10) = .int y10 ∧ me_e G h a ru S te ne M (mcC S (mcR S (B.2.2.2.drop (u + 1))) ((zs_ru B u).drop t) st M) y10 h7) ∧ (¬ z0 = 0 → (¬ y10 = 0 → narrow .boolean (.int y10) = .int y10 ∧ me_e G h a ru S te ne M (mcC S (mcR S (B.2.2.2.drop (u + 1))) ((zs_ru B u).drop t) st M) y10 h7) ∧ (y10 = 0 → wq_gR h7 a [(14, 2)] (fun a13 => wq_si G h7 a13 (nI k) (-1) (fun h14 => narrow .boolean (.int y10) = .int y10 ∧ me_e G h a ru S te ne M (mcC S (mcR S (B.2.2.2.drop (u + 1))) ((zs_ru B u).drop t) st M) y10 h14))))))))) ∧ (¬ z0 = 0 → ∃ fs19 : List Value, h2 a = some (.inr (14, fs19)) ∧ (wq_ci G l (2 * (n + 1) + 3) 0 0 mX16_triesAll [.ref a, .int (nI u), .int (nI t), .int (nI k)] h2 (fun y18 h15 C16 S17 => (z0 = 0 → narrow .boolean (.int y18) = .int y18 ∧ me_e G h a ru S te ne M (mcC S (mcR S (B.2.2.2.drop (u + 1))) ((zs_ru B u).drop t) st M) y18 h15) ∧ (¬ z0 = 0 → (¬ y18 = 0 → narrow .boolean (.int y18) = .int y18 ∧ me_e G h a ru S te ne M (mcC S (mcR S (B.2.2.2.drop (u + 1))) ((zs_ru B u).drop t) st M) y18 h15) ∧ (y18 = 0 → wq_gR h15 a [(14, 2)] (fun a21 => wq_si G h15 a21 (nI k) (-1) (fun h22 => narrow .boolean (.int y18) = .int y18 ∧ me_e G h a ru S te ne M (mcC S (mcR S (B.2.2.2.drop (u + 1))) ((zs_ru B u).drop t) st M) y18 h22)))))))) → wq_T G l (2 * (n + 1) + 3) mX16_goes (wq_qi (me_e G h a ru S te ne M (mcC S (mcR S (B.2.2.2.drop (u + 1))) ((zs_ru B u).drop t) st M))) 105 [some (.ref a), some (.int (nI u)), some (.int (nI t)), none, some (.ref p), some (.int (nI k)), none, none] [.int z0] h 0 0 := by
          intro z0 q
          refine vX16_goes_105 (gR1 hMa rfl (gR1 w2 rfl (ai_n w6 t rfl (by omega) (by omega) (si_n hMt zt k rfl hk18 (by omega) ?_))))
          rw [r4]
          exact q _ rfl
        rw [hd]
        have h2a : (wq_set h te (.inl (G.2.2.1 0, 18, .inl (upd f k (nI y.2))))) a = some (.inr (14, [.ref ru, .int (nI S), .ref te, .ref ne])) := by rw [wq_set_ne nta]; exact hMa
        have h2n : (wq_set h te (.inl (G.2.2.1 0, 18, .inl (upd f k (nI y.2))))) ne = some (.inl (G.2.2.1 0, 18, .inl g)) := by rw [wq_set_ne tn.symm]; exact hMn
        have q2 : hx (fun b => b = te ∨ b = ne) h (wq_set h te (.inl (G.2.2.1 0, 18, .inl (upd f k (nI y.2))))) := hx.set (Or.inl (Or.inl rfl))
        have ub : ∀ j, j ≠ k → upd f k (nI y.2) j = f j := fun j hj => by unfold upd; rw [if_neg hj]
        have uk : upd f k (nI y.2) k = nI y.2 := by unfold upd; rw [if_pos rfl]
        rw [hd] at fill
        cases hMk2 : M k with
        | none =>
          obtain ⟨m1, m2⟩ := mk2_n (hMk k hk18) hMk2
          refine gR1 hMa rfl (ai_n hMt k rfl hk18 (by omega) ?_)
          rw [m1]
          have hv : mcC S (mcR S (B.2.2.2.drop (u + 1))) (y :: (zs_ru B u).drop (t + 1)) st M = trys (fun to => mcC S (mcR S (B.2.2.2.drop (u + 1))) ((zs_ru B u).drop (t + 1)) to (zs_Mu M k y.2 to)) S 0 := by
            rw [mcC, hkk, hMk2]
          rw [hv] at fill ⊢
          generalize hff : (fun to => mcC S (mcR S (B.2.2.2.drop (u + 1))) ((zs_ru B u).drop (t + 1)) to (zs_Mu M k y.2 to)) = ff at fill ⊢
          have hf' : ∀ to, mcC S (mcR S (B.2.2.2.drop (u + 1))) ((zs_ru B u).drop (t + 1)) to (zs_Mu M k y.2 to) = ff to := fun to => by rw [← hff]
          refine ⟨fun _ => gR1 hMa rfl (ai_n hMt k rfl hk18 (by omega) ?_), fun c => absurd rfl c⟩
          rw [m1]
          refine ⟨fun c => absurd rfl c, fun _ => fill 1 ?_⟩
          rintro h2 rfl
          refine ⟨fun c => absurd c (by decide), fun _ => ⟨_, h2a, ?_⟩⟩
          -- all that can follow is tried
          have tries : wq_C G l (2 * n + 4) 0 0 mX16_triesAll [.ref a, .int (nI u), .int (nI t), .int (nI k)] (wq_set h te (.inl (G.2.2.1 0, 18, .inl (upd f k (nI y.2))))) (wq_qi fun r h' => hx (fun b => b = te ∨ b = ne) h h' ∧ match trys ff S 0 with
              | some M' => r = 1 ∧ me_at G h' a ru S te ne M' ∧ mok M'
              | none => r = 0 ∧ h' a = some (.inr (14, [.ref ru, .int (nI S), .ref te, .ref ne])) ∧ ∃ f' g' : Nat → Int32, h' te = some (.inl (G.2.2.1 0, 18, .inl f')) ∧ h' ne = some (.inl (G.2.2.1 0, 18, .inl g')) ∧ g' k = -1 ∧ ∀ j, j < 18 → j ≠ k → mk2 M j (f' j) (g' j)) := by
            refine wq_C.of pn_X16 (Nat.le_of_ble_eq_true rfl) rfl (vX16_triesAll_0 ?_)
            have loop : ∀ m to h3, to + m = S → hx (fun b => b = te ∨ b = ne) h h3 → h3 a = some (.inr (14, [.ref ru, .int (nI S), .ref te, .ref ne])) → (∃ f' g' : Nat → Int32, h3 te = some (.inl (G.2.2.1 0, 18, .inl f')) ∧ h3 ne = some (.inl (G.2.2.1 0, 18, .inl g')) ∧ f' k = nI y.2 ∧ ∀ j, j < 18 → j ≠ k → mk2 M j (f' j) (g' j)) → wq_T G l (2 * n + 4) mX16_triesAll (wq_qi fun r h' => hx (fun b => b = te ∨ b = ne) h h' ∧ match trys ff m to with
              | some M' => r = 1 ∧ me_at G h' a ru S te ne M' ∧ mok M'
              | none => r = 0 ∧ h' a = some (.inr (14, [.ref ru, .int (nI S), .ref te, .ref ne])) ∧ ∃ f' g' : Nat → Int32, h' te = some (.inl (G.2.2.1 0, 18, .inl f')) ∧ h' ne = some (.inl (G.2.2.1 0, 18, .inl g')) ∧ g' k = -1 ∧ ∀ j, j < 18 → j ≠ k → mk2 M j (f' j) (g' j)) 3 [some (.ref a), some (.int (nI u)), some (.int (nI t)), some (.int (nI k)), some (.int (nI to))] [] h3 0 0 := by
              intro m
              induction m with
              | zero =>
                rintro to h3 hto s1 s2 ⟨f', g', s3, s4, s5, s6⟩
                obtain rfl : to = S := by omega
                refine vX16_triesAll_3 (gI1 s2 rfl ⟨fun _ => gR1 s2 rfl (si_n s4 zn k rfl hk18 (by omega) ⟨s1.t (hx.set (Or.inl (Or.inr rfl))), rfl, by rw [wq_set_ne nna]; exact s2, f', _, by rw [wq_set_ne tn]; exact s3, wq_set_eq, by unfold upd; rw [if_pos rfl], fun j hj hjk => ?_⟩), fun c => absurd (Int32.le_refl _) c⟩)
                unfold upd
                rw [if_neg hjk]
                exact s6 j hj hjk
              | succ m ihm =>
                rintro to h3 hto s1 s2 ⟨f', g', s3, s4, s5, s6⟩
                refine vX16_triesAll_3 (gI1 s2 rfl ⟨fun c => ?_, fun _ => gR1 s2 rfl (si_n s4 zn k rfl hk18 (by omega) ⟨_, by rw [wq_set_ne nna]; exact s2, ?_⟩)⟩)
                · rw [nI_leI (by omega) (by omega)] at c
                  omega
                · rw [nI_1]
                  have s1' : hx (fun b => b = te ∨ b = ne) h (wq_set h3 ne (.inl (G.2.2.1 0, 18, .inl (upd g' k (nI to))))) := s1.t (hx.set (Or.inl (Or.inr rfl)))
                  have hM' : me_at G (wq_set h3 ne (.inl (G.2.2.1 0, 18, .inl (upd g' k (nI to))))) a ru S te ne (zs_Mu M k y.2 to) := by
                    refine ⟨by rw [wq_set_ne nna]; exact s2, f', _, by rw [wq_set_ne tn]; exact s3, wq_set_eq, fun j hj => ?_⟩
                    unfold mk2 zs_Mu upd
                    by_cases e : j = k
                    · rw [if_pos e, if_pos e, e]
                      exact ⟨s5, rfl⟩
                    · rw [if_neg e, if_neg e]
                      exact s6 j hj e
                  have c := ih.2 _ (zs_Mu M k y.2 to) u (t + 1) to (hk.hx s1' fun b hb => by rcases hb with z | z <;> rw [z] <;> assumption) (runs_hx hk hP zt zn pt pn rr s1') hM' (mok_u hm x2 (by omega)) hu (by omega) (by omega) (by omega)
                  rw [hf'] at c
                  refine wq_ci.use (by omega) (Nat.le_refl _) (Nat.le_refl _) c ?_
                  rintro y1 h4 ⟨g1, g2⟩
                  cases hft : ff to with
                  | some M' =>
                    rw [hft] at g2
                    obtain ⟨rfl, g3, g4⟩ := g2
                    refine ⟨fun c => absurd c (by decide), fun _ => ⟨s1'.t g1, ?_⟩⟩
                    rw [trys, hft]
                    exact ⟨rfl, g3, g4⟩
                  | none =>
                    rw [hft] at g2
                    obtain ⟨rfl, g3⟩ := g2
                    refine ⟨fun _ => ?_, fun c => absurd rfl c⟩
                    have e : trys ff (m + 1) to = trys ff m (to + 1) := by rw [trys, hft]
                    rw [e, nI_1]
                    obtain ⟨g4, f4, f5, g5, g6, g7⟩ := g3
                    refine ihm (to + 1) h4 (by omega) (s1'.t g1) g4 ⟨f4, f5, g5, g6, ?_, fun j hj hjk => ?_⟩
                    · have := g7 k hk18
                      unfold mk2 zs_Mu at this
                      rw [if_pos rfl] at this
                      exact this.1
                    · have := g7 j hj
                      unfold mk2 zs_Mu at this
                      rw [if_neg hjk] at this
                      exact this
            refine loop S 0 _ (by omega) q2 h2a ⟨_, g, wq_set_eq, h2n, uk, fun j hj hjk => ?_⟩
            rw [ub j hjk]
            exact hMk j hj
          refine wq_ci.use (by omega) (Nat.le_refl _) (Nat.le_refl _) tries ?_
          rintro y1 h3 ⟨g1, g2⟩
          refine ⟨fun c => absurd c (by decide), fun _ => ?_⟩
          cases htr : trys ff S 0 with
          | some M' =>
            rw [htr] at g2
            obtain ⟨rfl, g3, g4⟩ := g2
            exact ⟨fun _ => ⟨by decide, g1, rfl, g3, g4⟩, fun c => absurd c (by decide)⟩
          | none =>
            rw [htr] at g2
            obtain ⟨rfl, g3, f', g', g4, g5, g6, g7⟩ := g2
            refine ⟨fun c => absurd rfl c, fun _ => gR1 g3 rfl (si_n g4 zt k rfl hk18 (by omega) ⟨by decide, g1.t (hx.set (Or.inl (Or.inl rfl))), rfl, by rw [wq_set_ne nta]; exact g3, _, g', wq_set_eq, by rw [wq_set_ne tn.symm]; exact g5, fun j hj => ?_⟩)⟩
            unfold upd
            by_cases e : j = k
            · rw [if_pos e, e]
              unfold mk2
              rw [hMk2]
              exact ⟨rfl, g6⟩
            · rw [if_neg e]
              exact g7 j hj e
        | some e =>
          obtain ⟨m1, m2⟩ := mk2_s (hMk k hk18) hMk2
          obtain ⟨e1, e2⟩ := hm k e hMk2
          have hv : mcC S (mcR S (B.2.2.2.drop (u + 1))) (y :: (zs_ru B u).drop (t + 1)) st M = if e.1 = y.2 then mcC S (mcR S (B.2.2.2.drop (u + 1))) ((zs_ru B u).drop (t + 1)) e.2 M else none := by
            rw [mcC, hkk, hMk2]
          rw [hv] at fill ⊢
          refine gR1 hMa rfl (ai_n hMt k rfl hk18 (by omega) ?_)
          rw [m1]
          refine ⟨fun c => absurd c (nI_ne1 (by omega)), fun _ => gR1 hMa rfl (ai_n hMt k rfl hk18 (by omega) (gR1 w2 rfl (ai_n w6 t rfl (by omega) (by omega) ?_)))⟩
          rw [m1, r4, nI_eq (by omega) (by omega)]
          refine ⟨fun c => gR1 hMa rfl (ai_n hMt k rfl hk18 (by omega) ?_), fun c => ?_⟩
          · rw [m1]
            refine ⟨fun _ => fill 0 ?_, fun c => absurd c (nI_ne1 (by omega))⟩
            rintro h2 rfl
            refine ⟨fun _ => gR1 h2a rfl (ai_n h2n k rfl hk18 (by omega) ⟨_, h2a, ?_⟩), fun c => absurd rfl c⟩
            rw [m2, if_pos c, nI_1]
            have hM2 : me_at G (wq_set h te (.inl (G.2.2.1 0, 18, .inl (upd f k (nI y.2))))) a ru S te ne M := by
              refine ⟨h2a, _, g, wq_set_eq, h2n, fun j hj => ?_⟩
              by_cases z : j = k
              · rw [z, uk, ← c, ← m1]
                exact hMk k hk18
              · rw [ub j z]
                exact hMk j hj
            refine wq_ci.use (by omega) (Nat.le_refl _) (Nat.le_refl _) (ih.2 _ M u (t + 1) e.2 (hk.hx q2 fun b hb => by rcases hb with z | z <;> rw [z] <;> assumption) (runs_hx hk hP zt zn pt pn rr q2) hM2 hm hu (by omega) (by omega) (by omega)) ?_
            rintro y1 h3 ⟨g1, g2⟩
            refine ⟨fun _ => ?_, fun c => absurd rfl c⟩
            cases hq : mcC S (mcR S (B.2.2.2.drop (u + 1))) ((zs_ru B u).drop (t + 1)) e.2 M with
            | some M' =>
              rw [hq] at g2
              obtain ⟨rfl, g3, g4⟩ := g2
              exact ⟨by decide, q2.t g1, rfl, g3, g4⟩
            | none =>
              rw [hq] at g2
              obtain ⟨rfl, g3⟩ := g2
              exact ⟨by decide, q2.t g1, rfl, g3⟩
          · rw [if_neg c]
            exact ⟨hx.refl, rfl, hM⟩
      · rw [nI_eq (by omega) (by omega)] at c
        subst c
        rw [List.drop_length]
        have hv : mcC S (mcR S (B.2.2.2.drop (u + 1))) [] st M = mcR S (B.2.2.2.drop (u + 1)) M := by rw [mcC]
        rw [hv, nI_1]
        by_cases hl : u + 1 = B.2.2.2.length
        · rw [hl, List.drop_length]
          refine wq_ci.use (by omega) (Nat.le_refl _) (Nat.le_refl _) (ih.1 h M hk rr hM hm) ?_
          rintro y1 h3 ⟨g1, rfl, g3⟩
          exact ⟨by decide, g1, rfl, g3⟩
        · rw [ru_drop (by omega : u + 1 < B.2.2.2.length)]
          refine wq_ci.use (by omega) (Nat.le_refl _) (Nat.le_refl _) (ih.2 h M (u + 1) 0 0 hk rr hM hm (by omega) (by omega) (by omega) (by omega)) ?_
          intro y1 h3 hy
          rw [List.drop_zero] at hy
          have hv2 : mcR S (zs_ru B (u + 1) :: B.2.2.2.drop (u + 1 + 1)) M = mcC S (mcR S (B.2.2.2.drop (u + 1 + 1))) (zs_ru B (u + 1)) 0 M := by rw [mcR]
          rw [hv2]
          refine ⟨?_, hy⟩
          obtain ⟨-, hy⟩ := hy
          split at hy
          · rw [hy.1]; decide
          · rw [hy.1]; decide
    · rw [nI_eq (by omega) (by omega)] at c
      omega
end CP12
