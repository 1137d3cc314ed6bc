/-! CONTRACTS of the reference: going up by the tableau; the tableau as it is laid -/
set_option maxRecDepth 100000
theorem lp_iv.congr {A : Nat → Nat → Int} {m W : Nat} {b : Nat → Nat} {q : Nat} {f g : Nat → Nat → Int64} {low low' : Int64} (h : lp_iv A m W b q f low) (hl : low' = low) (h1 : ∀ r c, r < m → c ≤ W → g r c = f r c) (h2 : ∀ c, c ≤ W → g q c = f q c) : lp_iv A m W b q g low' := by
  obtain ⟨a1, a2, a3⟩ := h
  exact ⟨hl.trans a1, fun r c hr hc => (h1 r c hr hc).trans (a2 r c hr hc), fun c hc => (h2 c hc).trans (a3 c hc)⟩
/-- what stands while it goes up: the first aim's view, the view of the aim that is gone up by -/
def lp_up (A A1 : Nat → Nat → Int) (m W q : Nat) (fr : Nat → Bool) (b : Nat → Nat) (f : Nat → Nat → Int64) (low : Int64) : Prop := lp_iv A m W b q f low ∧ lp_iv A1 m W b m f low ∧ sx_ok A m W b ∧ (q = m + 1 → ∀ c, c < W → 0 ≤ sx_t A1 m b m c ∧ (sx_t A1 m b m c = 0 ↔ fr c = true))
theorem lp_up_p {A A1 : Nat → Nat → Int} {m W q : Nat} {fr : Nat → Bool} {b : Nat → Nat} {f g : Nat → Nat → Int64} {low low' : Int64} {s r : Nat} (bs : lp_bs A m W) (bs1 : lp_bs A1 m W) (hq : q = m ∨ q = m + 1) (h : lp_up A A1 m W q fr b f low) (he : sx_ent A m W fr b s) (hl : sx_lea A m W b s r) (hl2 : low' = f r s) (hg : ∀ i c, i ≤ m + 1 → c ≤ W → g i c = lp_pv f low r s i c) : lp_up A A1 m W q fr (sx_p b r s) g low' := by
  obtain ⟨h1, h2, h3, h4⟩ := h
  have ok1 := h1.ok h2 bs bs1 h3
  have tw := h1.two h2 bs bs1 h3.2.1
  refine ⟨(lp_iv_p h1 bs h3 (by omega) hl.1 he.1).congr hl2 (fun i c hi hc => hg i c (by omega) hc) (fun c hc => hg q c (by omega) hc), (lp_iv_p h2 bs1 ok1 (Nat.le_refl m) hl.1 he.1).congr hl2 (fun i c hi hc => hg i c (by omega) hc) (fun c hc => hg m c (by omega) hc), sx_st_ok h3 ⟨s, r, he, hl, rfl⟩, fun e c hc => ?_⟩
  have h5 := h4 e
  have z : sx_t A1 m b m s = 0 := (h5 s he.1).2.mpr he.2.1
  have e1 := sx_t_p (A := A1) (b := b) (row := r) (col := s) (r := m) (c := c) hl.1 (Nat.le_refl m) (by have := hl.1; omega)
  rw [z, Int.zero_mul, Int.sub_zero] at e1
  have hD := ok1.1
  have hp : 0 < sx_t A1 m b r s := by rw [← tw.2 r s hl.1 (by have := he.1; omega)]; exact hl.2.1
  obtain ⟨h6, h7⟩ := h5 c hc
  have h8 := Int.mul_nonneg h6 (Int.le_of_lt hp)
  refine ⟨?_, ?_⟩
  · apply Decidable.byContradiction
    intro q
    have := Int.mul_neg_of_neg_of_pos (show sx_t A1 m (sx_p b r s) m c < 0 by omega) hD
    omega
  · rw [← h7]
    constructor
    · intro q
      rw [q, Int.zero_mul] at e1
      rcases Int.mul_eq_zero.mp e1.symm with x | x
      · exact x
      · omega
    · intro q
      rw [q, Int.zero_mul] at e1
      rcases Int.mul_eq_zero.mp e1 with x | x
      · exact x
      · omega
def tg_i (A A1 : Nat → Nat → Int) (m W q : Nat) (fr : Nat → Bool) (s : tw_S) (b : Nat → Nat) (s' : tw_S) : Prop := tw_f1 s s' ∧ s'.1 30 = nI m ∧ s'.1 31 = nI (W + 1) ∧ (∀ r, r < m → s'.2.1 28 r = nI (b r)) ∧ lp_up A A1 m W q fr b (tu_f s') s'.2.2.2
section TW16
variable {G : wq_G} {l : Launch} {o : Nat} {ad : Nat → Nat} {h : wq_H} {s : tw_S} {L N : Nat} {T : zs_T}
theorem t_goesUp (ok : tw_ok G o ad) {A A1 : Nat → Nat → Int} {m W q : Nat} {fr : Nat → Bool} {b0 : Nat → Nat} (hm : m ≤ 32) (hW : W ≤ 96) (hq : (q = m ∧ (∀ c, fr c = true)) ∨ q = m + 1) (bs : lp_bs A m W) (bs1 : lp_bs A1 m W) (hA : ∀ r c, r < m → c < W → 0 ≤ A c r) (hA2 : ∀ c, c < W → ∃ i, i < m ∧ 0 < A c i) (hi : tg_i A A1 m W q fr s b0 s) : wq_C G l 2 0 0 mX3_goesUp [.ref o, .int (nI q)] (tw_h G o ad s h) (tw_qv G o ad h fun s' => ∃ b, tg_i A A1 m W q fr s b s' ∧ ∀ c, c < W → fr c = true → 0 ≤ sx_t A m b m c) := by
  refine wq_C.of pn_X3 (Nat.le_of_ble_eq_true rfl) rfl (vX3_goesUp_0 ok ?_)
  generalize hK : (fun s' => ∃ b, tg_i A A1 m W q fr s b s' ∧ ∀ c, c < W → fr c = true → 0 ≤ sx_t A m b m c) = K
  have hq2 : q = m ∨ q = m + 1 := by omega
  refine sx_ind (A := A) (m := m) (W := W) (fr := fr) (P := fun b => ∀ s', tg_i A A1 m W q fr s b s' → tw_T G l o ad h 2 mX3_goesUp (tw_qv G o ad h K) 2 [some (.ref o), some (.int (nI q)), some (.int 1), none, none] [] s') ?_ hi.2.2.2.2.2.2.1 s hi
  intro b sok ih s' hs
  obtain ⟨hf, h30, h31, h28, hup⟩ := id hs
  obtain ⟨iv, iv1, -, hfr⟩ := id hup
  have ok1 := iv.ok iv1 bs bs1 sok
  have hD : ¬ s'.2.2.2 = 0 := by
    have h1 := bs.D sok.2.1
    have h2 := sok.1
    rw [iv.1, jJ_lit 0, jJ_inj (by omega) (by omega) (by omega) (by omega)]
    omega
  have found : ∀ j x4, sx_ent A m W fr b j → tw_T G l o ad h 2 mX3_goesUp (tw_qv G o ad h K) 11 [some (.ref o), some (.int (nI q)), none, some (.int (nI j)), some (.int x4)] [] s' := by
    intro j x4 he
    have hj := he.1
    have call : tw_ci G l o ad h 2 mX3_bounding [.ref o, .int (nI j)] s' (fun y s1 => tw_T G l o ad h 2 mX3_goesUp (tw_qv G o ad h K) 91 [some (.ref o), some (.int (nI q)), none, some (.int (nI j)), none] [.int y] s1) := by
      refine tw_ci.use (by decide) (t_bounding (A := A) (q := q) ok hm hW h30 h31 h28 iv bs sok hj (sx_bdd sok hA hj (hA2 j hj))) ?_
      rintro x s1 ⟨⟨r, rfl, hl⟩, rfl⟩
      have hr := hl.1
      refine vX3_goesUp_91 ok ⟨fun c => absurd c (nI_pos (by omega)), fun _ => ⟨fun c => absurd c (by decide), fun _ => ?_⟩⟩
      refine tw_cv.use (by decide) (t_turnOver ok hm hW h30 h31 hD hr hj) fun s2 h2 => ?_
      obtain ⟨g1, g2, g3, g4, g5, g6⟩ := h2
      refine ih (sx_p b r j) ⟨j, r, he, hl, rfl⟩ s2 ⟨hf.trans g1, g2, g3, fun i hi => ?_, lp_up_p bs bs1 hq2 hup he hl g4 g6⟩
      rw [g5 i]
      unfold sx_p
      by_cases e : i = r
      · rw [if_pos e, if_pos e]
      · rw [if_neg e, if_neg e]; exact h28 i hi
    exact vX3_goesUp_11 ok ⟨fun _ => ⟨fun _ => call, fun c => absurd (nI_pos' (by omega)) c⟩, fun _ => ⟨fun _ => ⟨fun _ => call, fun c => absurd (nI_pos' (by omega)) c⟩, fun c => absurd (nI_pos' (by omega)) c⟩⟩
  have srch : ∀ n j, j + n = W → (∀ c, c < j → fr c = true → 0 ≤ sx_t A m b m c) → tw_T G l o ad h 2 mX3_goesUp (tw_qv G o ad h K) 11 [some (.ref o), some (.int (nI q)), none, some (.int (-1)), some (.int (nI j))] [] s' := by
    intro n
    induction n with
    | zero =>
      intro j hj hn
      obtain rfl : j = W := by omega
      refine vX3_goesUp_11 ok ⟨fun _ => ⟨fun c => absurd c (by decide), fun _ => ?_⟩, fun c => ?_⟩
      · refine vX3_goesUp_91 ok ⟨fun _ => ⟨fun _ => ?_, fun c => absurd rfl c⟩, fun c => absurd (by decide) c⟩
        refine vX3_goesUp_2 ok ⟨fun _ => ?_, fun c => absurd rfl c⟩
        subst hK
        exact ⟨b, hs, hn⟩
      · rw [h31, nI_sub1 (by omega), Nat.add_sub_cancel] at c
        exact absurd (Int32.le_refl _) c
    | succ n ih2 =>
      intro j hj hn
      have next : (fr j = true → 0 ≤ sx_t A m b m j) → tw_T G l o ad h 2 mX3_goesUp (tw_qv G o ad h K) 11 [some (.ref o), some (.int (nI q)), none, some (.int (-1)), some (.int (nI j + 1))] [] s' := by
        intro hx
        rw [nI_1]
        refine ih2 (j + 1) (by omega) fun c hc hfc => ?_
        by_cases e : c = j
        · subst e; exact hx hfc
        · exact hn c (by omega) hfc
      have hneg := iv.neg bs sok (c := j) (by omega)
      refine vX3_goesUp_11 ok ⟨fun c => ?_, fun _ => ⟨fun c => absurd c (by decide), fun _ => ?_⟩⟩
      · rw [h31, nI_sub1 (by omega), Nat.add_sub_cancel, nI_leI (by omega) (by omega)] at c
        omega
      · refine tw_ci.eq (by decide) (t_cell ok q j) (tw_ldl_n (97 * q + j) rfl (by omega) ⟨fun c => ?_, fun c => ⟨fun c2 => ?_, fun c2 => ?_⟩⟩)
        · rw [lg_cmp_ge] at c
          refine next fun _ => ?_
          apply Decidable.byContradiction
          intro q
          exact absurd (hneg.mpr (by omega)) (Int64.not_lt.mpr c)
        · rw [lg_cmp_ge, Int64.not_le] at c
          rw [h30, nI_eq (by omega) (by omega)] at c2
          refine found j _ ⟨by omega, ?_, hneg.mp c, hn⟩
          rcases hq with x | x
          · exact x.2 j
          · omega
        · rw [lg_cmp_ge, Int64.not_le] at c
          rw [h30, nI_eq (by omega) (by omega)] at c2
          rw [h30]
          have hqq : q = m + 1 := by omega
          have hz := iv1.zero bs1 ok1 (c := j) (by omega)
          refine tw_ci.eq (by decide) (t_cell ok m j) (tw_ldl_n (97 * m + j) rfl (by omega) ⟨fun c3 => ?_, fun c3 => ?_⟩)
          · rw [lg_cmp_eq] at c3
            exact next fun hx => absurd (hz.mpr ((hfr hqq j (by omega)).2.mpr hx)) c3
          · rw [lg_cmp_eq] at c3
            exact found j _ ⟨by omega, (hfr hqq j (by omega)).2.mp (hz.mp c3), hneg.mp c, hn⟩
  refine vX3_goesUp_2 ok ⟨fun c => absurd c (by decide), fun _ => ?_⟩
  exact srch W 0 (by omega) (fun c hc => by omega)
end TW16
/-! the first base -/
theorem ex_w_unit {n m : Nat} (hm : m < n) {t : Nat → Int} (ht : ∀ k, t k = if k = 2 ^ m - 1 then 1 else 0) : ∀ k, k < 2 ^ n → ex_w n (fun i => if i = m then 1 else 0) t k = if k = 2 ^ (m + 1) - 1 then 1 else 0 := by
  induction n with
  | zero => omega
  | succ n ih =>
    intro k hk
    have pm := Nat.two_pow_pos m
    have pn := Nat.two_pow_pos n
    have e2 : 2 ^ (m + 1) = 2 * 2 ^ m := by rw [Nat.pow_succ]; omega
    by_cases c : m < n
    · have le : 2 ^ (m + 1) ≤ 2 ^ n := Nat.pow_le_pow_right (by omega) (by omega)
      rcases ex_half hk with hk | ⟨j, hj, rfl⟩
      · rw [ex_w_lo hk]; exact ih c k hk
      · rw [ex_w_hi, if_neg (by omega), if_neg (by omega), ex_w_zero (fun k hk => by rw [ht, if_neg (by omega)]) j hj]; omega
    · obtain rfl : m = n := by omega
      have z : ∀ (s : Nat → Int) k, k < 2 ^ m → ex_w m (fun i => if i = m then 1 else 0) s k = 0 := by
        intro s k hk
        have h1 := ex_w_congr (n := m) (v := fun i => if i = m then 1 else 0) (v' := fun i => 0 * s i + 0 * s i) (s := s) (t := s) (fun i hi => by rw [if_neg (by omega)]; omega) (fun _ _ => rfl) k hk
        rw [h1, ex_w_vadd k hk]; omega
      rcases ex_half hk with hk | ⟨j, hj, rfl⟩
      · rw [ex_w_lo hk, z t k hk, if_neg (by omega)]
      · rw [ex_w_hi, if_pos rfl, z _ j hj, ht]
        by_cases q : j = 2 ^ m - 1
        · rw [if_pos q, if_pos (by omega)]; rfl
        · rw [if_neg q, if_neg (by omega)]; rfl
theorem ex_det_1 {n : Nat} : ex_det n (fun j i => if i = j then 1 else 0) = 1 := by
  have key : ∀ m, m ≤ n → ∀ k, k < 2 ^ n → ex_W n (fun j i => if i = j then 1 else 0) m k = if k = 2 ^ m - 1 then 1 else 0 := by
    intro m
    induction m with
    | zero => intro _ k _; rfl
    | succ m ih =>
      intro hm k hk
      simp only [ex_W]
      rw [ex_w_congr (v' := fun i => if i = m then 1 else 0) (t := fun k => if k = 2 ^ m - 1 then 1 else 0) (fun _ _ => rfl) (fun k hk => ih (by omega) k hk) k hk]
      exact ex_w_unit (by omega) (fun _ => rfl) k hk
  have := key n (Nat.le_refl n) _ ex_top
  rw [if_pos rfl] at this
  exact this
theorem sx_first {A : Nat → Nat → Int} {m w0 : Nat} (hs : sx_sl A m w0) : sx_D A m (fun r => w0 + r) = 1 ∧ ∀ r c, r ≤ m → sx_t A m (fun r => w0 + r) r c = A c r := by
  have hB : ∀ j, j < m + 1 → ∀ i, i < m + 1 → sx_B A m (fun r => w0 + r) j i = if i = j then 1 else 0 := by
    intro j hj i hi
    by_cases c : j = m
    · subst c; rw [sx_B_m]; rfl
    · rw [sx_B_lt (by omega)]
      exact hs.1 j i (by omega) (by omega)
  have hD : sx_D A m (fun r => w0 + r) = 1 := by
    unfold sx_D
    rw [ex_det_congr hB, ex_det_1]
  refine ⟨hD, fun r c hr => ?_⟩
  have h1 := ex_cramer_sum (n := m + 1) (B := sx_B A m (fun r => w0 + r)) (v := A c) r (by omega)
  have h2 : ex_det (m + 1) (sx_B A m (fun r => w0 + r)) = 1 := hD
  rw [h2, ex_sum_s, sx_s_1 (i := r) (by omega), hB r (by omega) r (by omega), if_pos rfl] at h1
  · unfold sx_t
    omega
  · intro j hj hne
    rw [hB j hj r (by omega), if_neg (fun q => hne q.symm)]; omega
theorem sx_first_ok {A : Nat → Nat → Int} {m w0 : Nat} (hs : sx_sl A m w0) (hr : ∀ r, r < m → 0 ≤ A (w0 + m) r) : sx_ok A m (w0 + m) (fun r => w0 + r) := by
  obtain ⟨h1, h2⟩ := sx_first hs
  exact ⟨by rw [h1]; decide, fun r hr => Nat.add_lt_add_left hr w0, fun r hr2 => by rw [h2 r _ (by omega)]; exact hr r hr2⟩
