/-! CONTRACTS of the reference: small ones -/
set_option maxRecDepth 100000
theorem pn_X3 : plainName RX3 = true := by decide +kernel
theorem b2i_of {p : Prop} [Decidable p] (h : p) : (1 : Int32) = b2i (decide p) := by simp [b2i, h]
theorem b2i_not {p : Prop} [Decidable p] (h : ¬ p) : (0 : Int32) = b2i (decide p) := by simp [b2i, h]
section TW1
variable {G : wq_G} {l : Launch} {o : Nat} {ad : Nat → Nat} {h : wq_H} {s : tw_S}
theorem t_within (ok : tw_ok G o ad) (d : Nat) (v lo hi : Int32) : wq_C G l d 0 0 mX3_within [.int v, .int lo, .int hi] (tw_h G o ad s h) (tw_qi G o ad h fun r s' => r = b2i (decide (lo ≤ v ∧ v ≤ hi)) ∧ s' = s) := by
  refine wq_C.of pn_X3 (Nat.le_of_ble_eq_true rfl) rfl (vX3_within_0 ok ⟨fun c => ⟨b2i_not fun q => ?_, rfl⟩, fun c => ⟨fun c2 => ⟨b2i_not fun q => ?_, rfl⟩, fun c2 => ⟨b2i_of ⟨?_, ?_⟩, rfl⟩⟩⟩)
  · exact absurd c (Int32.not_lt.mpr q.1)
  · exact absurd c2 (Int32.not_lt.mpr q.2)
  · exact Int32.not_lt.mp c
  · exact Int32.not_lt.mp c2
theorem t_has (ok : tw_ok G o ad) (d : Nat) {a k : Nat} (ha : a < 2 ^ 31) (hk : k < 32) : wq_C G l d 0 0 mX3_has [.int (nI a), .int (nI k)] (tw_h G o ad s h) (tw_qi G o ad h fun r s' => r = b2i (a.testBit k) ∧ s' = s) := by
  have e : (nI a >>> (nI k &&& 31)) &&& 1 = nI (a / 2 ^ k % 2) := nI_bit ha hk
  have ht : a.testBit k = decide (a / 2 ^ k % 2 = 1) := Nat.testBit_eq_decide_div_mod_eq
  have h2 : a / 2 ^ k % 2 < 2 := Nat.mod_lt _ (by omega)
  refine wq_C.of pn_X3 (Nat.le_of_ble_eq_true rfl) rfl (vX3_has_0 ok ⟨fun c => ⟨?_, rfl⟩, fun c => ⟨?_, rfl⟩⟩)
  · rw [ht]
    refine b2i_not fun q => c ?_
    rw [e, q]; rfl
  · rw [ht]
    refine b2i_of ?_
    rw [e, nI_lit 1, nI_eq (by omega) (by omega)] at c
    exact c
theorem t_bits (ok : tw_ok G o ad) (d : Nat) {a : Nat} (ha : a < 2 ^ 31) : wq_C G l d 0 0 mX3_bits [.int (nI a)] (tw_h G o ad s h) (tw_qi G o ad h fun r s' => r = nI (bc a 20) ∧ s' = s) := by
  refine wq_C.of pn_X3 (Nat.le_of_ble_eq_true rfl) rfl (vX3_bits_0 ok ?_)
  have key : ∀ n k, k + n = 20 → tw_T G l o ad h d mX3_bits (tw_qi G o ad h fun r s' => r = nI (bc a 20) ∧ s' = s) 4 [some (.int (nI a)), some (.int (nI (bc a k))), some (.int (nI k))] [] s := by
    intro n
    induction n with
    | zero =>
      intro k hk
      obtain rfl : k = 20 := by omega
      exact vX3_bits_4 ok ⟨fun _ => ⟨rfl, rfl⟩, fun c => absurd (by decide) c⟩
    | succ n ih =>
      intro k hk
      refine vX3_bits_4 ok ⟨fun c => ?_, fun _ => ?_⟩
      · rw [nI_lit 20, nI_leI (by omega) (by omega)] at c
        omega
      · rw [nI_bit ha (by omega), nI_lit 1, nI_add, nI_add]
        exact ih (k + 1) (by omega)
  exact key 20 0 rfl
end TW1
