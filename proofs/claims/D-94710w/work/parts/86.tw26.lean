/-! CONTRACTS of the reference: led, size, feed, what is asked of the desk itself -/
set_option maxRecDepth 100000
/-- outcomes of a set, of the first sets, that are possible and don't extend: 4 times the set and the outcome -/
def ldo (L : Nat) (T : zs_T) (k : Nat) : Nat → List Nat
  | 0 => []
  | p + 1 => ldo L T k p ++ (if 0 < (zs_at T k).2.2.1 p ∧ zs_ext L T k p = false then [4 * k + p] else [])
def ldp (L : Nat) (T : zs_T) : Nat → List Nat
  | 0 => []
  | k + 1 => ldp L T k ++ ldo L T k (zs_out (zs_at T k))
def zs_led (L : Nat) (T : zs_T) (x : Int32) : Option Nat := if 0 ≤ x then (ldp L T T.length)[x.toNatClampNeg]? else none
theorem ldo_mono (L : Nat) (T : zs_T) (k : Nat) {p q : Nat} (h : p ≤ q) : ∃ t, ldo L T k q = ldo L T k p ++ t := by
  induction q with
  | zero => rw [show p = 0 by omega]; exact ⟨[], by simp⟩
  | succ q ih =>
    by_cases c : p = q + 1
    · rw [c]; exact ⟨[], by simp⟩
    · obtain ⟨t, ht⟩ := ih (by omega)
      simp only [ldo]
      rw [ht, List.append_assoc]
      exact ⟨_, rfl⟩
theorem ldp_mono (L : Nat) (T : zs_T) {j k : Nat} (h : j ≤ k) : ∃ t, ldp L T k = ldp L T j ++ t := by
  induction k with
  | zero => rw [show j = 0 by omega]; exact ⟨[], by simp⟩
  | succ k ih =>
    by_cases c : j = k + 1
    · rw [c]; exact ⟨[], by simp⟩
    · obtain ⟨t, ht⟩ := ih (by omega)
      simp only [ldp]
      rw [ht, List.append_assoc]
      exact ⟨_, rfl⟩
theorem ldp_len (L : Nat) (T : zs_T) (k : Nat) : (ldp L T k).length ≤ 4 * k := by
  induction k with
  | zero => exact Nat.le_refl _
  | succ k ih =>
    have h1 : ∀ p, (ldo L T k p).length ≤ p := by
      intro p
      induction p with
      | zero => exact Nat.le_refl _
      | succ p ih => simp only [ldo, List.length_append]; split <;> simp <;> omega
    have := h1 (zs_out (zs_at T k))
    have := zs_out_le (zs_at T k)
    simp only [ldp, List.length_append]
    omega
theorem ldo_len (L : Nat) (T : zs_T) (k p : Nat) : (ldo L T k p).length ≤ p := by
  induction p with
  | zero => exact Nat.le_refl _
  | succ p ih => simp only [ldo, List.length_append]; split <;> simp <;> omega
/-- the one that is asked for, once it is found -/
theorem led_hit {L : Nat} {T : zs_T} {k p : Nat} (hk : k < T.length) (hp : p < zs_out (zs_at T k)) (h1 : 0 < (zs_at T k).2.2.1 p) (h2 : zs_ext L T k p = false) (h8 : T.length ≤ 8) {x : Int32} (hx : nI (ldp L T k ++ ldo L T k p).length = x) : zs_led L T x = some (4 * k + p) := by
  have hl := ldp_len L T k
  have hl2 := ldo_len L T k p
  have h4 := zs_out_le (zs_at T k)
  have hlen : (ldp L T k ++ ldo L T k p).length < 2 ^ 31 := by rw [List.length_append]; omega
  subst hx
  unfold zs_led
  rw [if_pos (nI_pos' hlen), nI_clamp hlen]
  obtain ⟨t1, e1⟩ := ldp_mono L T (show k + 1 ≤ T.length by omega)
  obtain ⟨t2, e2⟩ := ldo_mono L T k (show p + 1 ≤ zs_out (zs_at T k) by omega)
  rw [e1]
  simp only [ldp]
  rw [e2]
  simp only [ldo]
  rw [if_pos ⟨h1, h2⟩]
  rw [show ldp L T k ++ (ldo L T k p ++ [4 * k + p] ++ t2) ++ t1 = (ldp L T k ++ ldo L T k p) ++ ([4 * k + p] ++ t2 ++ t1) by simp]
  rw [List.getElem?_append_right (Nat.le_refl _), Nat.sub_self]
  rfl
theorem led_miss {L : Nat} {T : zs_T} {x : Int32} (h : ∀ n, n < (ldp L T T.length).length → nI n ≠ x) : zs_led L T x = none := by
  unfold zs_led
  by_cases c : 0 ≤ x
  · rw [if_pos c]
    refine List.getElem?_eq_none ?_
    apply Decidable.byContradiction
    intro q
    refine h x.toNatClampNeg (by omega) ?_
    have hx : (0 : Int) ≤ x.toInt := by
      have := Int32.le_iff_toInt_le.mp c
      rwa [Int32.toInt_zero] at this
    have e : x = nI x.toInt.toNat := by
      rw [nI_iI, show ((x.toInt.toNat : Nat) : Int) = x.toInt by omega, iI_self]
    have h31 := i32_hi x
    rw [e, nI_clamp (by omega)]
  · rw [if_neg c]
section TW26
variable {G : wq_G} {l : Launch} {o : Nat} {ad : Nat → Nat} {h : wq_H} {s : tw_S} {D : zs_D}
theorem tr_d.thr (hD : tr_d s D) (x : Int32) : tr_d (tw_pi s 0 x) D := by
  have hf : tw_fr s (tw_pi s 0 x) := tw_fr_pi (by decide)
  refine ⟨hD.1.fr hf, hD.2.1, ?_⟩
  cases e : D.2.2.2.2.2 with
  | none => exact (hD.n e).fr hf
  | some K => exact (hD.k e).fr hf
theorem t_led (ok : tw_ok G o ad) (x : Int32) (hD : tr_d s D) (dk : dok D) : wq_C G l 3 0 0 mX3_led [.ref o, .int x] (tw_h G o ad s h) (tw_qi G o ad h fun r s' => tr_d s' D ∧ match (match D.2.2.2.2.2 with
    | none => none
    | some K => zs_led K.1 K.2.2.2.1 x) with
  | none => r = 0 ∧ s'.1 0 = 1
  | some v => r = nI v ∧ s'.1 0 = 0) := by
  generalize hQ : (fun (r : Int32) (s' : tw_S) => tr_d s' D ∧ match (match D.2.2.2.2.2 with
    | none => none
    | some K => zs_led K.1 K.2.2.2.1 x) with
  | none => r = 0 ∧ s'.1 0 = 1
  | some v => r = nI v ∧ s'.1 0 = 0) = Q
  refine wq_C.of pn_X3 (Nat.le_of_ble_eq_true rfl) rfl (vX3_led_0 ok ?_)
  cases hK : D.2.2.2.2.2 with
  | none =>
    have e14 : s.1 14 = 0 := (hD.n hK).1
    refine vX3_led_4 ok ⟨fun _ => ?_, fun c => absurd e14 c⟩
    subst hQ
    refine ⟨hD.thr 1, ?_⟩
    rw [hK]
    exact ⟨rfl, rfl⟩
  | some K =>
    have hk := hD.k hK
    have hok := dk.2.2 K hK
    have hq := hk.2.1
    have h8 := tr_8 hq
    have e14 : ¬ s.1 14 = 0 := by rw [hk.1]; decide
    have e0 : s.2.1 15 0 = nI K.2.2.2.1.length := hq.1.1
    have key : ∀ n k, k + n = K.2.2.2.1.length → (∀ m, m < (ldp K.1 K.2.2.2.1 k).length → nI m ≠ x) → tw_T G l o ad h 3 mX3_led (tw_qi G o ad h Q) 4 [some (.ref o), some (.int x), some (.int (nI (ldp K.1 K.2.2.2.1 k).length)), some (.int (nI k)), none] [] s := by
      intro n
      induction n with
      | zero =>
        intro k hkn hm
        obtain rfl : k = K.2.2.2.1.length := by omega
        refine vX3_led_4 ok ⟨fun c => absurd c e14, fun _ => tw_ld_n 0 rfl (by decide) ?_⟩
        rw [e0]
        refine ⟨fun _ => ?_, fun c => absurd (Int32.le_refl _) c⟩
        subst hQ
        refine ⟨hD.thr 1, ?_⟩
        rw [hK]
        dsimp only
        rw [led_miss hm]
        exact ⟨rfl, rfl⟩
      | succ n ih =>
        intro k hkn hm
        have hkT : k < K.2.2.2.1.length := by omega
        have h4 := zs_out_le (zs_at K.2.2.2.1 k)
        have a1 := tr_at hq hkT
        have hl := ldp_len K.1 K.2.2.2.1 k
        refine vX3_led_4 ok ⟨fun c => absurd c e14, fun _ => tw_ld_n 0 rfl (by decide) ?_⟩
        rw [e0]
        refine ⟨fun c => ?_, fun _ => ?_⟩
        · rw [nI_leI (by omega) (by omega)] at c
          omega
        · have inner : ∀ m p, p + m = zs_out (zs_at K.2.2.2.1 k) → (∀ m, m < (ldp K.1 K.2.2.2.1 k ++ ldo K.1 K.2.2.2.1 k p).length → nI m ≠ x) → tw_T G l o ad h 3 mX3_led (tw_qi G o ad h Q) 24 [some (.ref o), some (.int x), some (.int (nI (ldp K.1 K.2.2.2.1 k ++ ldo K.1 K.2.2.2.1 k p).length)), some (.int (nI k)), some (.int (nI p))] [] s := by
            intro m
            induction m with
            | zero =>
              intro p hp hm
              obtain rfl : p = zs_out (zs_at K.2.2.2.1 k) := by omega
              refine vX3_led_24 ok (tw_ci.eq (by decide) (t_outcomes ok hq hkT) ⟨fun _ => ?_, fun c => absurd (Int32.le_refl _) c⟩)
              rw [nI_1]
              exact ih (k + 1) (by omega) hm
            | succ m ih2 =>
              intro p hp hm
              have hpo : p < zs_out (zs_at K.2.2.2.1 k) := by omega
              have htm := ok_tm hok.1 hkT hpo
              have hN := hok.2.2.2.1
              have hl2 := ldo_len K.1 K.2.2.2.1 k p
              have ll : (ldp K.1 K.2.2.2.1 k ++ ldo K.1 K.2.2.2.1 k p).length < 2 ^ 31 := by rw [List.length_append]; omega
              have next : ¬ (0 < (zs_at K.2.2.2.1 k).2.2.1 p ∧ zs_ext K.1 K.2.2.2.1 k p = false) → tw_T G l o ad h 3 mX3_led (tw_qi G o ad h Q) 24 [some (.ref o), some (.int x), some (.int (nI (ldp K.1 K.2.2.2.1 k ++ ldo K.1 K.2.2.2.1 k p).length)), some (.int (nI k)), some (.int (nI p + 1))] [] s := by
                intro hn
                have e : ldo K.1 K.2.2.2.1 k (p + 1) = ldo K.1 K.2.2.2.1 k p := by simp only [ldo]; rw [if_neg hn, List.append_nil]
                have := ih2 (p + 1) (by omega) (by rw [e]; exact hm)
                rw [e, ← nI_1] at this
                exact this
              refine vX3_led_24 ok (tw_ci.eq (by decide) (t_outcomes ok hq hkT) ⟨fun c => ?_, fun _ => tw_ld_n (17 + 4 * k + p) (by rw [nI_lit 17, nI_lit 4, nI_mul, nI_add, nI_add]) (by show _ < 346; omega) ?_⟩)
              · rw [nI_leI (by omega) (by omega)] at c
                omega
              · have ez : nI ((zs_at K.2.2.2.1 k).2.2.1 p) = 0 ↔ (zs_at K.2.2.2.1 k).2.2.1 p = 0 := nI_eq (b := 0) (by omega) (by omega)
                rw [a1.2.2.1 p hpo, ez]
                refine ⟨fun c => next (by omega), fun c => tw_ci.eq (by decide) (t_doesExtend ok hq hkT (by omega)) ?_⟩
                rw [b2i_0]
                refine ⟨fun c2 => ⟨fun c3 => ?_, fun c3 => ?_⟩, fun c2 => next (by simp [c2])⟩
                · have hc : 0 < (zs_at K.2.2.2.1 k).2.2.1 p ∧ zs_ext K.1 K.2.2.2.1 k p = false := ⟨by omega, c2⟩
                  have e : ldo K.1 K.2.2.2.1 k (p + 1) = ldo K.1 K.2.2.2.1 k p ++ [4 * k + p] := by simp only [ldo]; rw [if_pos hc]
                  have el : (ldp K.1 K.2.2.2.1 k ++ ldo K.1 K.2.2.2.1 k (p + 1)).length = (ldp K.1 K.2.2.2.1 k ++ ldo K.1 K.2.2.2.1 k p).length + 1 := by
                    rw [e]; simp; omega
                  have := ih2 (p + 1) (by omega) (fun q hq => by
                    rw [el] at hq
                    by_cases eq : q = (ldp K.1 K.2.2.2.1 k ++ ldo K.1 K.2.2.2.1 k p).length
                    · rw [eq]; exact c3
                    · exact hm q (by omega))
                  rw [el, ← nI_1, ← nI_1] at this
                  exact this
                · subst hQ
                  have hit := led_hit hkT hpo (by omega) c2 h8 c3
                  refine ⟨hD.thr 0, ?_⟩
                  rw [hK]
                  dsimp only
                  rw [hit]
                  refine ⟨?_, rfl⟩
                  rw [nI_lit 4, nI_mul, nI_add]
          have := inner (zs_out (zs_at K.2.2.2.1 k)) 0 (by omega) (by simpa [ldo] using hm)
          rw [show ldo K.1 K.2.2.2.1 k 0 = [] from rfl, List.append_nil] at this
          exact this
    exact key K.2.2.2.1.length 0 (by omega) (fun m hm => by simp [ldp] at hm)
theorem t_thrown (ok : tw_ok G o ad) : wq_C G l 0 0 0 mX3_thrown [.ref o] (tw_h G o ad s h) (tw_qi G o ad h fun r s' => r = s.1 0 ∧ s' = s) :=
  wq_C.of pn_X3 (Nat.le_of_ble_eq_true rfl) rfl (vX3_thrown_0 ok ⟨rfl, rfl⟩)
theorem t_fault (ok : tw_ok G o ad) (hD : tr_d s D) : wq_C G l 0 0 0 mX3_fault [.ref o] (tw_h G o ad s h) (tw_qi G o ad h fun r s' => r = D.2.2.1 ∧ tr_d s' D) :=
  wq_C.of pn_X3 (Nat.le_of_ble_eq_true rfl) rfl (vX3_fault_0 ok ⟨hD.1.2.2.1, hD.thr 0⟩)
def dk_where (D : zs_D) : Int32 := if D.2.2.2.2.1 = 4 then D.2.2.2.1 else -1
theorem t_where (ok : tw_ok G o ad) (hD : tr_d s D) : wq_C G l 0 0 0 mX3_where [.ref o] (tw_h G o ad s h) (tw_qi G o ad h fun r s' => r = dk_where D ∧ tr_d s' D) := by
  refine wq_C.of pn_X3 (Nat.le_of_ble_eq_true rfl) rfl (vX3_where_0 ok ?_)
  unfold tw_pt
  dsimp only
  have e11 : (tw_pi s 0 0).1 11 = D.2.2.2.2.1 := hD.2.1
  have e10 : (tw_pi s 0 0).1 10 = D.2.2.2.1 := hD.1.2.2.2
  rw [e11, e10]
  unfold dk_where
  exact ⟨fun c => ⟨by rw [if_neg c], hD.thr 0⟩, fun c => ⟨by rw [if_pos c], hD.thr 0⟩⟩
theorem t_trouble (ok : tw_ok G o ad) (hD : tr_d s D) : wq_C G l 0 0 0 mX3_trouble [.ref o] (tw_h G o ad s h) (tw_qi G o ad h fun r s' => r = D.2.2.2.2.1 ∧ tr_d s' D) :=
  wq_C.of pn_X3 (Nat.le_of_ble_eq_true rfl) rfl (vX3_trouble_0 ok ⟨hD.2.1, hD.thr 0⟩)
/-- how many there are of what -/
def kn_size (K : zs_K) (n : Nat) : Nat := match n with
  | 0 => K.1
  | 1 => K.2.2.1.1
  | 2 => K.2.2.2.1.length
  | 3 => K.2.2.1.2.1.length
  | 4 => K.2.2.1.2.2.1.length
  | 5 => K.2.2.1.2.2.2.length
  | 6 => K.2.1
  | 7 => K.2.2.2.2.1.length
  | 8 => K.2.2.2.2.2.1.length
  | _ => K.2.2.2.2.2.2.length
def dk_size (D : zs_D) (x : Int32) : Int32 := if x = 10 then nI D.2.1 else if inB x 10 then (match D.2.2.2.2.2 with
  | none => 0
  | some K => nI (kn_size K x.toNatClampNeg)) else -1
theorem t_size (ok : tw_ok G o ad) (x : Int32) (hD : tr_d s D) : wq_C G l 1 0 0 mX3_size [.ref o, .int x] (tw_h G o ad s h) (tw_qi G o ad h fun r s' => r = dk_size D x ∧ tr_d s' D) := by
  generalize hQ : (fun (r : Int32) (s' : tw_S) => r = dk_size D x ∧ tr_d s' D) = Q
  refine wq_C.of pn_X3 (Nat.le_of_ble_eq_true rfl) rfl (vX3_size_0 ok ?_)
  unfold tw_pt
  have hD0 := hD.thr 0
  have fin : ∀ v, v = dk_size D x → Q v (tw_pi s 0 0) := by
    intro v hv; subst hQ; exact ⟨hv, hD0⟩
  refine ⟨fun c => ?_, fun c => fin _ ?_⟩
  · have hu : dk_size D x = if inB x 10 then (match D.2.2.2.2.2 with
      | none => 0
      | some K => nI (kn_size K x.toNatClampNeg)) else -1 := by unfold dk_size; rw [if_neg c]
    cases hK : D.2.2.2.2.2 with
    | none =>
      rw [hK] at hu
      have e14 : (tw_pi s 0 0).1 14 = 0 := (hD0.n hK).1
      refine ⟨fun c => absurd e14 c, fun _ => tw_ci.eq (by decide) (t_within ok 0 x 0 9) ?_⟩
      rw [show (9 : Int32) = nI 10 - 1 from rfl, in_range (by omega), b2i_0]
      exact ⟨fun c => fin _ (by rw [hu, c]; rfl), fun c => fin _ (by simp only [Bool.not_eq_false] at c; rw [hu, c]; rfl)⟩
    | some K =>
      rw [hK] at hu
      have hk := hD0.k hK
      have e14 : ¬ (tw_pi s 0 0).1 14 = 0 := by rw [hk.1]; decide
      have hv : ∀ n : Nat, n < 10 → x.toInt = n → dk_size D x = nI (kn_size K n) := by
        intro n hn hx
        have e : x = nI n := by rw [nI_iI, ← hx, iI_self]
        rw [hu, e, inB_nI (by omega), nI_clamp (by omega), decide_eq_true hn]; rfl
      refine ⟨fun _ => ⟨fun c => fin _ ?_, fun c => tw_ld_n 50 rfl (by decide) (fin _ ?_), fun c => tw_ld_n 51 rfl (by decide) (fin _ ?_), fun c => tw_ld_n 0 rfl (by decide) (fin _ ?_), fun c => tw_ld_n 52 rfl (by decide) (fin _ ?_), fun c => tw_ld_n 85 rfl (by decide) (fin _ ?_), fun c => tw_ld_n 158 rfl (by decide) (fin _ ?_), fun c => tw_ld_n 49 rfl (by decide) (fin _ ?_), fun c => fin _ ?_, fun c => fin _ ?_, fun c => fin _ ?_⟩, fun c => absurd c e14⟩
      · have : inB x 10 = false := by unfold inB; rw [decide_eq_false_iff_not]; omega
        rw [hu, this]; rfl
      · rw [hv 0 (by omega) c]; exact hk.2.1.2.2.2.1
      · rw [hv 1 (by omega) c]; exact hk.2.2.1.2.1
      · rw [hv 2 (by omega) c]; exact hk.2.1.1.1
      · rw [hv 3 (by omega) c]; exact hk.2.2.1.2.2.1
      · rw [hv 4 (by omega) c]; exact hk.2.2.1.2.2.2.2.1
      · rw [hv 5 (by omega) c]; exact hk.2.2.1.2.2.2.2.2.2.1
      · rw [hv 6 (by omega) c]; exact hk.2.1.2.2.2.2.1
      · rw [hv 7 (by omega) c]; exact hk.2.2.2.1
      · rw [hv 8 (by omega) c]; exact hk.2.2.2.2.2.1
      · rw [hv 9 (by omega) c]; exact hk.2.2.2.2.2.2.2.1
  · unfold dk_size; rw [if_pos c]; exact hD0.1.2.1
/-- a byte of an int -/
def fby (w : Int32) (n : Nat) : Nat := w.toBitVec.toNat / 2 ^ n % 256
theorem fby_lt (w : Int32) (n : Nat) : fby w n < 256 := Nat.mod_lt _ (by omega)
theorem fby_eq {w : Int32} {n : Nat} (hn : n ≤ 24) : (w >>> (nI n &&& 31)) &&& 255 = nI (fby w n) := by
  refine b_ext fun i hi => ?_
  rw [b_and, b_255]
  have hb : bt (nI (fby w n)) i = (fby w n).testBit i := by
    show (BitVec.ofNat 32 (fby w n)).getLsbD i = _
    rw [BitVec.getLsbD_ofNat]
    simp [hi]
  rw [hb]
  unfold fby
  rw [show (256 : Nat) = 2 ^ 8 from rfl, Nat.testBit_mod_two_pow, ← Nat.shiftRight_eq_div_pow, Nat.testBit_shiftRight]
  by_cases c : i < 8
  · rw [b_sshr n (by omega) w hi, if_pos (by omega)]
    simp only [c, decide_true, Bool.and_true, Bool.true_and]
    show w.toBitVec.getLsbD (n + i) = _
    rw [← BitVec.testBit_toNat]
  · simp [c]
/-- which int a place of a feed comes from -/
def fwd (a b c d e : Int32) (k : Nat) : Int32 := if k < 4 then a else if k < 8 then b else if k < 12 then c else if k < 16 then d else e
def dk_feed (D : zs_D) (a b c d e : Int32) : Int32 × zs_D := if D.2.1 + 20 ≤ 900 then (nI (D.2.1 + 20), (fun k => if D.2.1 ≤ k ∧ k < D.2.1 + 20 then fby (fwd a b c d e (k - D.2.1)) (24 - 8 * ((k - D.2.1) % 4)) else D.1 k), D.2.1 + 20, D.2.2) else (-1, D)
theorem t_feed (ok : tw_ok G o ad) (a b c d e : Int32) (hD : tr_d s D) (dk : dok D) : wq_C G l 0 0 0 mX3_feed [.ref o, .int a, .int b, .int c, .int d, .int e] (tw_h G o ad s h) (tw_qi G o ad h fun r s' => r = (dk_feed D a b c d e).1 ∧ tr_d s' (dk_feed D a b c d e).2) := by
  generalize hQ : (fun (r : Int32) (s' : tw_S) => r = (dk_feed D a b c d e).1 ∧ tr_d s' (dk_feed D a b c d e).2) = Q
  refine wq_C.of pn_X3 (Nat.le_of_ble_eq_true rfl) rfl (vX3_feed_0 ok ?_)
  unfold tw_pt
  dsimp only
  have hD0 := hD.thr 0
  have h900 := dk.2.1
  have e2 : (tw_pi s 0 0).1 2 = nI D.2.1 := hD0.1.2.1
  rw [e2, nI_lit 20, nI_add, nI_lit 900, nI_leI (by omega) (by omega)]
  refine ⟨fun c1 => ?_, fun c1 => ?_⟩
  · have hdk : dk_feed D a b c d e = (nI (D.2.1 + 20), (fun k => if D.2.1 ≤ k ∧ k < D.2.1 + 20 then fby (fwd a b c d e (k - D.2.1)) (24 - 8 * ((k - D.2.1) % 4)) else D.1 k), D.2.1 + 20, D.2.2) := by unfold dk_feed; rw [if_pos c1]
    have key : ∀ n k s', k + n = 20 → (∀ j, j ≠ 2 → s'.1 j = (tw_pi s 0 0).1 j) → (∀ j, j ≠ 1 → s'.2.1 j = s.2.1 j) → s'.1 2 = nI (D.2.1 + k) → (∀ j, j < D.2.1 → s'.2.1 1 j = s.2.1 1 j) → (∀ j, j < k → s'.2.1 1 (D.2.1 + j) = nI (fby (fwd a b c d e j) (24 - 8 * (j % 4)))) → tw_T G l o ad h 0 mX3_feed (tw_qi G o ad h Q) 23 [some (.ref o), some (.int a), some (.int b), some (.int c), some (.int d), some (.int e), some (.int (nI k)), none] [] s' := by
      intro n
      induction n with
      | zero =>
        intro k s' hk g1 g2 g3 g4 g5
        obtain rfl : k = 20 := by omega
        refine vX3_feed_23 ok ⟨fun _ => ?_, fun c => absurd (by decide) c⟩
        subst hQ
        rw [hdk, g3]
        refine ⟨rfl, ⟨fun j hj => ?_, g3, (g1 9 (by decide)).trans hD0.1.2.2.1, (g1 10 (by decide)).trans hD0.1.2.2.2⟩, (g1 11 (by decide)).trans hD0.2.1, ?_⟩
        · show s'.2.1 1 j = nI (if D.2.1 ≤ j ∧ j < D.2.1 + 20 then _ else _)
          have hj : j < D.2.1 + 20 := hj
          by_cases q : D.2.1 ≤ j
          · rw [if_pos ⟨q, hj⟩]
            have := g5 (j - D.2.1) (by omega)
            rw [show D.2.1 + (j - D.2.1) = j by omega] at this
            exact this
          · rw [if_neg (by omega), g4 j (by omega)]
            exact hD.1.1 j (by omega)
        · show match D.2.2.2.2.2 with
            | none => tr_n s'
            | some K => tr_k s' K
          have fr14 := g1 14 (by decide)
          have fr24 := g1 24 (by decide)
          have fr25 := g1 25 (by decide)
          have fr26 := g1 26 (by decide)
          cases hK : D.2.2.2.2.2 with
          | none =>
            have hn := hD0.n hK
            exact ⟨fr14.trans hn.1, fr24.trans hn.2.1, fr25.trans hn.2.2.1, fr26.trans hn.2.2.2⟩
          | some K =>
            have hk := hD0.k hK
            refine ⟨fr14.trans hk.1, ?_, hk.2.2.1.of (fun j hj => by rw [g2 15 (by decide)]; rfl), ?_⟩
            · have := hk.2.1
              unfold tr_q at *
              rw [g2 15 (by decide), g2 17 (by decide)]; exact this
            · have := hk.2.2.2
              unfold tr_h at *
              rw [g2 19 (by decide), g2 20 (by decide), g2 21 (by decide), g2 22 (by decide), g2 23 (by decide), fr24, fr25, fr26]; exact this
      | succ n ih =>
        intro k s' hk g1 g2 g3 g4 g5
        have step : ∀ z0, z0 = fwd a b c d e k → tw_T G l o ad h 0 mX3_feed (tw_qi G o ad h Q) 76 [some (.ref o), some (.int a), some (.int b), some (.int c), some (.int d), some (.int e), some (.int (nI k)), none] [.int z0] s' := by
          intro z0 hz
          have e24 : (24 : Int32) - 8 * (nI k - nI k / 4 * 4) = nI (24 - 8 * (k % 4)) := by
            have : ∀ k, k < 20 → (24 : Int32) - 8 * (nI k - nI k / 4 * 4) = nI (24 - 8 * (k % 4)) := by decide
            exact this k (by omega)
          refine vX3_feed_76 ok ?_
          rw [e24, fby_eq (by omega), g3]
          refine tw_st_n (D.2.1 + k) rfl (by show _ < 900; omega) ?_
          unfold tw_pt
          have e2' : (tw_pa s' 1 (D.2.1 + k) (nI (fby z0 (24 - 8 * (k % 4))))).1 2 = nI (D.2.1 + k) := g3
          rw [e2', nI_1, nI_1]
          refine ih (k + 1) _ (by omega) (fun j hj => ?_) (fun j hj => ?_) pi_eq (fun j hj => ?_) (fun j hj => ?_)
          · rw [pi_ne hj]; exact g1 j hj
          · show (tw_pa s' 1 _ _).2.1 j = _
            rw [pa_no hj]; exact g2 j hj
          · show (tw_pa s' 1 _ _).2.1 1 j = _
            rw [pa_ne (by omega)]; exact g4 j hj
          · show (tw_pa s' 1 _ _).2.1 1 (D.2.1 + j) = _
            by_cases q : j = k
            · subst q; rw [pa_eq, hz]
            · rw [pa_ne (by omega)]; exact g5 j (by omega)
        have le : ∀ m : Nat, m ≤ 20 → (nI m ≤ nI k ↔ m ≤ k) := fun m hm => nI_leI (by omega) (by omega)
        refine vX3_feed_23 ok ?_
        rw [nI_lit 20, nI_lit 4, nI_lit 8, nI_lit 12, nI_lit 16, le 20 (by omega), le 4 (by omega), le 8 (by omega), le 12 (by omega), le 16 (by omega)]
        refine ⟨fun c => by omega, fun _ => ⟨fun c4 => ⟨fun c8 => ⟨fun c12 => ⟨fun c16 => step _ ?_, fun c16 => step _ ?_⟩, fun c12 => step _ ?_⟩, fun c8 => step _ ?_⟩, fun c4 => step _ ?_⟩⟩
        · unfold fwd; rw [if_neg (by omega), if_neg (by omega), if_neg (by omega), if_neg (by omega)]
        · unfold fwd; rw [if_neg (by omega), if_neg (by omega), if_neg (by omega), if_pos (by omega)]
        · unfold fwd; rw [if_neg (by omega), if_neg (by omega), if_pos (by omega)]
        · unfold fwd; rw [if_neg (by omega), if_pos (by omega)]
        · unfold fwd; rw [if_pos (by omega)]
    exact key 20 0 (tw_pi s 0 0) (by omega) (fun _ _ => rfl) (fun _ _ => rfl) hD0.1.2.1 (fun _ _ => rfl) (fun j hj => by omega)
  · subst hQ
    have hdk : dk_feed D a b c d e = (-1, D) := by unfold dk_feed; rw [if_neg c1]
    rw [hdk]
    exact ⟨rfl, hD0⟩
end TW26
