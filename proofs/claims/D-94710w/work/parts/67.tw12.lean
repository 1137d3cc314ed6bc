/-! CONTRACTS of the reference: colours. What is counted: the leaves of a tree of choices, in their order -/
set_option maxRecDepth 100000
/-- no corner of rays that are there, all of them told, is without a 1 -/
def gd (B : zs_B) (there set ray : Nat) : Bool := (zs_cor B).all (fun m => !(subB m there && subB m (2 ^ ray - 1)) || decide (m &&& set ≠ 0))
def lv (B : zs_B) (there : Nat) : Nat → Nat → Nat → List Nat
  | 0, ray, set => if gd B there set ray = true then [set] else []
  | m + 1, ray, set => if gd B there set ray = true then lv B there m (ray + 1) set ++ (if (there.testBit ray && decide (sm B ray &&& set = 0)) = true then lv B there m (ray + 1) (set ||| 2 ^ ray) else []) else []
def zs_lv (B : zs_B) (there : Nat) : List Nat := lv B there B.2.2.1.length 0 0
theorem lv_len (B : zs_B) (there : Nat) : ∀ m ray set, (lv B there m ray set).length ≤ 2 ^ m := by
  intro m
  induction m with
  | zero => intro ray set; simp only [lv]; split <;> simp
  | succ m ih =>
    intro ray set
    simp only [lv]
    rw [Nat.pow_succ]
    split
    · rw [List.length_append]
      have h1 := ih (ray + 1) set
      split
      · have h2 := ih (ray + 1) (set ||| 2 ^ ray)
        omega
      · simp only [List.length_nil]; omega
    · simp
/-- the greatest number of 1s -/
def mo (m : Nat) (l : List Nat) : Nat := l.foldl (fun m x => if m < bc x 20 then bc x 20 else m) m
/-- no two of a set are square -/
def ind (B : zs_B) (set : Nat) : Prop := ∀ i j, set.testBit i = true → set.testBit j = true → re B i j = false
theorem two_bits {x n : Nat} (hx : x < 2 ^ n) (hn : n ≤ 20) (h : 2 ≤ bc x 20) : ∃ i j, i ≠ j ∧ x.testBit i = true ∧ x.testBit j = true := by
  rw [bc_small hx hn, bc_cnt] at h
  obtain ⟨f, h1, h2⟩ := cnt_pick n _ rfl (p := fun k => x.testBit k)
  exact ⟨f 0, f 1, h2 0 1 (by omega) (by omega) (by omega), (h1 0 (by omega)).2, (h1 1 (by omega)).2⟩
theorem bc_pos {x n : Nat} (hx : x < 2 ^ n) (hn : n ≤ 20) : bc x 20 = 0 ↔ x = 0 := by
  constructor
  · intro h
    rw [bc_small hx hn, bc_cnt] at h
    apply Nat.eq_of_testBit_eq
    intro i
    rw [Nat.zero_testBit]
    by_cases c : i < n
    · exact cnt_zero h i c
    · exact Nat.testBit_lt_two_pow (Nat.lt_of_lt_of_le hx (Nat.pow_le_pow_right (by omega) (by omega)))
  · intro h
    subst h
    rw [bc_cnt]
    have : ∀ m, cnt (fun k => (0 : Nat).testBit k) m = 0 := by
      intro m
      induction m with
      | zero => rfl
      | succ m ih => rw [cnt_s, ih]; simp
    exact this _
theorem nI_m1 (k : Nat) : nI (k + 1) + -1 = nI k := by
  rw [nI_iI, nI_iI, show (-1 : Int32) = iI (-1) from rfl, iI_add]
  congr 1
  omega
theorem nI_sh1 {k : Nat} (hk : k < 30) : (nI (2 ^ k) <<< ((1 : Int32) &&& 31)) = nI (2 ^ (k + 1)) := by
  have : ∀ k, k < 30 → (nI (2 ^ k) <<< ((1 : Int32) &&& 31)) = nI (2 ^ (k + 1)) := by decide
  exact this k hk
section TW12
variable {G : wq_G} {l : Launch} {o : Nat} {ad : Nat → Nat} {h : wq_H} {s : tw_S} {L : Nat} {B : zs_B}
theorem cor_lt (hB : zs_bok L B) {x : Nat} (hx : x ∈ zs_cor B) : x < 2 ^ 18 := by
  obtain ⟨a, b, c, d, h⟩ := mem_cor.mp hx
  exact Nat.lt_of_lt_of_le (is4_kq (re_comm B) h).1 (pow_9 hB.2.2.2.1)
theorem cor_re {x i j : Nat} (hx : x ∈ zs_cor B) (hi : x.testBit i = true) (hj : x.testBit j = true) (hij : i ≠ j) : re B i j = true := by
  obtain ⟨a, b, c, d, h⟩ := mem_cor.mp hx
  exact (is4_kq (re_comm B) h).2.2.2 i j hi hj hij
theorem t_isSoFar (ok : tw_ok G o ad) (hB : zs_bok L B) (hc : tr_c s B) {there set ray : Nat} (ht : there < 2 ^ 31) (hs : set < 2 ^ 31) (hr : ray ≤ 18) (hi : ind B set) : wq_C G l 1 0 0 mX3_isSoFar [.ref o, .int (nI there), .int (nI set), .int (nI (2 ^ ray - 1))] (tw_h G o ad s h) (tw_qi G o ad h fun r s' => r = b2i (gd B there set ray) ∧ s' = s) := by
  have h400 : (zs_cor B).length ≤ 400 := cor_le hB (re B) (fun _ _ h => h) (re_comm B)
  have hp := pow_9 hr
  have hpp := Nat.two_pow_pos ray
  refine wq_C.of pn_X3 (Nat.le_of_ble_eq_true rfl) rfl (vX3_isSoFar_0 ok ?_)
  let f : Nat → Bool := fun m => !(subB m there && subB m (2 ^ ray - 1)) || decide (m &&& set ≠ 0)
  have hgd : gd B there set ray = (zs_cor B).all f := rfl
  have stop : ∀ k, ((zs_cor B).take k).all f = false → gd B there set ray = false := by
    intro k hk
    rw [hgd, ← List.take_append_drop k (zs_cor B), List.all_append, hk, Bool.false_and]
  have key : ∀ n k, k + n = (zs_cor B).length → tw_T G l o ad h 1 mX3_isSoFar (tw_qi G o ad h fun r s' => r = b2i (gd B there set ray) ∧ s' = s) 6 [some (.ref o), some (.int (nI there)), some (.int (nI set)), some (.int (nI (2 ^ ray - 1))), some (.int (b2i (((zs_cor B).take k).all f))), some (.int (nI k)), none, none] [] s := by
    intro n
    induction n with
    | zero =>
      intro k hk
      obtain rfl : k = (zs_cor B).length := by omega
      refine vX3_isSoFar_6 ok ?_
      rw [hc.1, List.take_length]
      exact ⟨fun _ => ⟨b2i_z _, by rw [hgd], rfl⟩, fun c => absurd (Int32.le_refl _) c⟩
    | succ n ih =>
      intro k hk
      have hk' : k < (zs_cor B).length := by omega
      have ih := ih (k + 1) (by omega)
      have hg : (zs_cor B)[k]? = some ((zs_cor B)[k]) := List.getElem?_eq_getElem hk'
      have hx := List.getElem_mem hk'
      have htk : (zs_cor B).take (k + 1) = (zs_cor B).take k ++ [(zs_cor B)[k]] := by rw [List.take_add_one, hg]; rfl
      rw [htk, List.all_append] at ih
      generalize (zs_cor B)[k] = x at *
      have hx18 := cor_lt hB hx
      refine vX3_isSoFar_6 ok ?_
      rw [hc.1, nI_leI (by omega) (by omega), b2i_0]
      refine ⟨fun c => absurd c (by omega), fun _ => ⟨fun c => ⟨by rw [← b2i_0]; exact b2i_z _, by rw [c, stop k c], rfl⟩, fun c => ?_⟩⟩
      simp only [Bool.not_eq_false] at c
      rw [c] at ih ⊢
      refine tw_ld_n k rfl (by show _ < 3060; omega) ?_
      rw [hc.2.1 k x hg, and_not (by omega) ht, ← subB_iff, nI_and, nI_1]
      have hand : x &&& set < 2 ^ 18 := Nat.lt_of_le_of_lt Nat.and_le_left hx18
      have hbl := bc_le (x &&& set) 20
      have hlt2 : bc (x &&& set) 20 < 2 := by
        apply Nat.lt_of_not_le
        intro q
        obtain ⟨i, j, hij, h1, h2⟩ := two_bits hand (by omega) q
        rw [Nat.testBit_and, Bool.and_eq_true] at h1 h2
        have := hi i j h1.2 h2.2
        rw [cor_re hx h1.1 h2.1 hij] at this
        cases this
      have hz := bc_pos hand (by omega : 18 ≤ 20)
      refine ⟨fun c1 => tw_ci.eq (by decide) (t_bits ok 0 (by omega)) ?_, fun c1 => ?_⟩
      · rw [nI_lit 2, nI_leI (by omega) (by omega), and_not (by omega) (by omega), ← subB_iff]
        refine ⟨fun c2 => absurd c2 (by omega), fun _ => ⟨fun c3 => ?_, fun c3 => ?_⟩⟩
        · have e : f x = true := by simp [f, c3]
          simpa [e, b2i] using ih
        · rw [show (nI (bc (x &&& set) 20) = 1) = (bc (x &&& set) 20 = 1) from propext (nI_eq (b := 1) (by omega) (by omega))]
          refine ⟨fun c4 => ?_, fun c4 => ?_⟩
          · have e : f x = false := by
              have : x &&& set = 0 := hz.mp (by omega)
              simp [f, c1, c3, this]
            simpa [e, b2i] using ih
          · have e : f x = true := by
              have : x &&& set ≠ 0 := fun q => by have := hz.mpr q; omega
              simp [f, this]
            simpa [e, b2i] using ih
      · have e : f x = true := by simp [f, c1]
        simpa [e, b2i] using ih
  have := key (zs_cor B).length 0 (by omega)
  rw [List.take_zero] at this
  exact this
/-- what has been counted -/
def cl_i (s : tw_S) (B : zs_B) (cs : Nat → Int32) (c m : Nat) (s' : tw_S) : Prop := tw_f1 s s' ∧ tr_c s' B ∧ (∀ k, k < 19 → s'.2.1 35 k = cs k) ∧ s'.1 36 = nI c ∧ s'.1 37 = nI m
theorem cl_cs {cs : Nat → Int32} {c m k : Nat} {x : Int32} {s' : tw_S} (hI : cl_i s B cs c m s') : cl_i s B (upd cs k x) c m (tw_pa s' 35 k x) := by
  obtain ⟨h1, h2, h3, h4, h5⟩ := hI
  refine ⟨h1.pa (by decide), ?_, fun j hj => ?_, h4, h5⟩
  · obtain ⟨a1, a2, a3⟩ := h2
    exact ⟨a1, fun k x hk => by rw [pa_no (by decide)]; exact a2 k x hk, fun a ha => by rw [pa_no (by decide)]; exact a3 a ha⟩
  · by_cases e : j = k
    · subst e; rw [pa_eq]; simp [upd]
    · rw [pa_ne e]; simp only [upd, if_neg e]; exact h3 j hj
theorem cl_cm {cs : Nat → Int32} {c m c' m' : Nat} {s' : tw_S} (hI : cl_i s B cs c m s') : cl_i s B cs c' m' (tw_pi (tw_pi s' 36 (nI c')) 37 (nI m')) := by
  obtain ⟨h1, h2, h3, h4, h5⟩ := hI
  refine ⟨(h1.pi (by decide)).pi (by decide), ?_, h3, ?_, pi_eq⟩
  · obtain ⟨a1, a2, a3⟩ := h2
    exact ⟨by rw [pi_ne (by decide), pi_ne (by decide)]; exact a1, a2, a3⟩
  · rw [pi_ne (by decide)]; exact pi_eq
theorem upd_same {cs : Nat → Int32} {k : Nat} {x y : Int32} : upd (upd cs k x) k y = upd cs k y := by
  funext j; simp only [upd]; split <;> rfl
theorem upd_id {cs : Nat → Int32} {k : Nat} {x : Int32} (h : cs k = x) : upd cs k x = cs := by
  funext j; simp only [upd]; split
  · rename_i e; rw [e, h]
  · rfl
theorem clr_bit {x k : Nat} (hx : x < 2 ^ k) (hk : k ≤ 18) : nI x &&& (nI (2 ^ k) ^^^ (-1)) = nI x := by
  have hp := pow_9 hk
  have hbt : ∀ n j, j < 32 → bt (nI n) j = n.testBit j := by
    intro n j hj
    show (BitVec.ofNat 32 n).getLsbD j = _
    rw [BitVec.getLsbD_ofNat]
    simp [hj]
  refine b_ext fun i hi => ?_
  rw [b_and, b_xor, b_m1 i hi, hbt x i hi, hbt (2 ^ k) i hi, Nat.testBit_two_pow]
  by_cases e : k = i
  · subst e; rw [Nat.testBit_lt_two_pow hx]; rfl
  · simp [e]
theorem clr_bit2 {x k : Nat} (hx : x < 2 ^ k) (hk : k ≤ 18) : nI (x ||| 2 ^ k) &&& (nI (2 ^ k) ^^^ (-1)) = nI x := by
  have hp := pow_9 hk
  have hbt : ∀ n j, j < 32 → bt (nI n) j = n.testBit j := by
    intro n j hj
    show (BitVec.ofNat 32 n).getLsbD j = _
    rw [BitVec.getLsbD_ofNat]
    simp [hj]
  refine b_ext fun i hi => ?_
  rw [b_and, b_xor, b_m1 i hi, hbt _ i hi, hbt (2 ^ k) i hi, hbt x i hi, Nat.testBit_or, Nat.testBit_two_pow]
  by_cases e : k = i
  · subst e; rw [Nat.testBit_lt_two_pow hx]; simp
  · simp [e]
theorem t_colour (ok : tw_ok G o ad) (hB : tr_b s L B) (hc : tr_c s B) {there most : Nat} (ht : there < 2 ^ 18) (hm : 1 ≤ most) (hm2 : most < 2 ^ 30) : wq_C G l 2 0 0 mX3_colour [.ref o, .int (nI there), .int (nI most)] (tw_h G o ad s h) (tw_qv G o ad h fun s' => tw_f1 s s' ∧ tr_c s' B ∧ ((zs_lv B there).length < most → s'.1 36 = nI (zs_lv B there).length ∧ s'.1 37 = nI (mo 0 (zs_lv B there))) ∧ (most ≤ (zs_lv B there).length → s'.1 36 = nI most)) := by
  have h18 := hB.1.2.2.2.1
  have h85 := hB.2.2.2.2.1
  generalize hK : (fun s' => tw_f1 s s' ∧ tr_c s' B ∧ ((zs_lv B there).length < most → s'.1 36 = nI (zs_lv B there).length ∧ s'.1 37 = nI (mo 0 (zs_lv B there))) ∧ (most ≤ (zs_lv B there).length → s'.1 36 = nI most)) = K
  generalize hn : B.2.2.1.length = n at *
  have molt : ∀ m x, m ≤ 20 → mo m [x] ≤ 20 := by
    intro m x hm
    show (if m < bc x 20 then bc x 20 else m) ≤ 20
    have := bc_le x 20
    split <;> omega
  have molt2 : ∀ (l : List Nat) m, m ≤ 20 → mo m l ≤ 20 := by
    intro l
    induction l with
    | nil => intro m hm; exact hm
    | cons x l ih => intro m hm; exact ih _ (molt m x hm)
  have moapp : ∀ (l l' : List Nat) m, mo m (l ++ l') = mo (mo m l) l' := fun l l' m => List.foldl_append ..
  have sub : ∀ m dp set cs c mx s', dp + m = n → set < 2 ^ dp → ind B set → gd B there set dp = true → cl_i s B cs c mx s' → (∀ k, dp ≤ k → k < n → cs k = 0) → c < most → mx ≤ 20 → (∀ s'', cl_i s B cs (c + (lv B there m dp set).length) (mo mx (lv B there m dp set)) s'' → c + (lv B there m dp set).length < most → ∀ z, z = set → tw_T G l o ad h 2 mX3_colour (tw_qv G o ad h K) 47 [some (.ref o), some (.int (nI there)), some (.int (nI most)), some (.int (nI n)), some (.int (nI dp + -1)), some (.int (nI z)), none, none, none] [] s'') → (most ≤ c + (lv B there m dp set).length → ∀ s'', tw_f1 s s'' → tr_c s'' B → s''.1 36 = nI most → K s'') → tw_T G l o ad h 2 mX3_colour (tw_qv G o ad h K) 47 [some (.ref o), some (.int (nI there)), some (.int (nI most)), some (.int (nI n)), some (.int (nI dp)), some (.int (nI set)), none, none, none] [] s' := by
    intro m
    induction m with
    | zero =>
      intro dp set cs c mx s' hd hset hind hg hI hz hcm hmx go stop
      obtain rfl : dp = n := by omega
      have hlv : lv B there 0 dp set = [set] := by simp [lv, hg]
      rw [hlv] at go stop
      have hp := pow_9 h18
      have hbl := bc_le set 20
      refine vX3_colour_47 ok ⟨fun c => absurd c (nI_pos (by omega)), fun _ => ⟨fun c => absurd rfl c, fun _ => ?_⟩⟩
      show tw_ci G l o ad h 2 mX3_bits [.int (nI set)] (tw_pi s' 36 (s'.1 36 + 1)) _
      rw [hI.2.2.2.1, nI_1]
      refine tw_ci.eq (by decide) (t_bits ok 0 (by omega)) ?_
      have e37 : (tw_pi s' 36 (nI (c + 1))).1 37 = nI mx := by rw [pi_ne (by decide)]; exact hI.2.2.2.2
      rw [e37, nI_leI (by omega) (by omega)]
      have fin : ∀ y, y = mo mx [set] → (¬ (tw_pi (tw_pi s' 36 (nI (c + 1))) 37 (nI y)).1 36 = nI most → tw_T G l o ad h 2 mX3_colour (tw_qv G o ad h K) 47 [some (.ref o), some (.int (nI there)), some (.int (nI most)), some (.int (nI dp)), some (.int (nI dp + -1)), some (.int (nI set)), none, none, none] [] (tw_pi (tw_pi s' 36 (nI (c + 1))) 37 (nI y))) ∧ ((tw_pi (tw_pi s' 36 (nI (c + 1))) 37 (nI y)).1 36 = nI most → K (tw_pi (tw_pi s' 36 (nI (c + 1))) 37 (nI y))) := by
        intro y hy
        have hJ := cl_cm (c' := c + 1) (m' := y) hI
        rw [hJ.2.2.2.1, nI_eq (by omega) (by omega)]
        refine ⟨fun q => go _ (by rw [← hy]; exact hJ) (by simp only [List.length_singleton]; omega) set rfl, fun q => stop (by simp only [List.length_singleton]; omega) _ hJ.1 hJ.2.1 (by rw [hJ.2.2.2.1, q])⟩
      refine ⟨fun c1 => ?_, fun c1 => tw_ci.eq (by decide) (t_bits ok 0 (by omega)) ?_⟩
      · show (¬ (tw_pi (tw_pi s' 36 (nI (c + 1))) 37 ((tw_pi s' 36 (nI (c + 1))).1 37)).1 36 = nI most → _) ∧ _
        rw [e37]
        exact fin mx (by show _ = (if _ then _ else _); rw [if_neg (by omega)])
      · exact fin (bc set 20) (by show _ = (if _ then _ else _); rw [if_pos (by omega)])
    | succ m ih =>
      intro dp set cs c mx s' hd hset hind hg hI hz hcm hmx go stop
      have hdn : dp < n := by omega
      have hp : 2 ^ dp < 2 ^ 31 := Nat.pow_lt_pow_right (by omega) (by omega)
      have hp18 : 2 ^ (dp + 1) ≤ 2 ^ 18 := pow_9 (by omega)
      have hpp : 2 ^ dp < 2 ^ (dp + 1) := Nat.pow_lt_pow_right (by omega) (by omega)
      have hset1 : set < 2 ^ (dp + 1) := by omega
      have hor : set ||| 2 ^ dp < 2 ^ (dp + 1) := Nat.or_lt_two_pow hset1 hpp
      have esh : (nI (2 ^ dp) <<< ((1 : Int32) &&& 31)) - 1 = nI (2 ^ (dp + 1) - 1) := by
        have e1 := nI_sh1 (k := dp) (by omega)
        rw [e1]
        have := nI_pred (2 ^ (dp + 1) - 1)
        rwa [show 2 ^ (dp + 1) - 1 + 1 = 2 ^ (dp + 1) by omega] at this
      have hne : ¬ nI dp = nI n := by rw [nI_eq (by omega) (by omega)]; omega
      have cs0 := hz dp (by omega) (by omega)
      -- the leaves
      have hlv : lv B there (m + 1) dp set = lv B there m (dp + 1) set ++ (if (there.testBit dp && decide (sm B dp &&& set = 0)) = true then lv B there m (dp + 1) (set ||| 2 ^ dp) else []) := by
        show (if _ then _ else _) = _
        rw [if_pos hg]
      have leaf0 : gd B there set (dp + 1) = false → lv B there m (dp + 1) set = [] := by
        intro q
        cases m <;> simp [lv, q]
      have leaf1 : gd B there (set ||| 2 ^ dp) (dp + 1) = false → lv B there m (dp + 1) (set ||| 2 ^ dp) = [] := by
        intro q
        cases m <;> simp [lv, q]
      generalize hl0 : lv B there m (dp + 1) set = l0 at *
      generalize hl1 : (if (there.testBit dp && decide (sm B dp &&& set = 0)) = true then lv B there m (dp + 1) (set ||| 2 ^ dp) else []) = l1 at *
      rw [hlv] at go stop
      -- third visit: what was chosen is taken back
      have third : ∀ s3 z, z = set ∨ z = set ||| 2 ^ dp → cl_i s B (upd cs dp 2) (c + (l0 ++ l1).length) (mo mx (l0 ++ l1)) s3 → c + (l0 ++ l1).length < most → tw_T G l o ad h 2 mX3_colour (tw_qv G o ad h K) 47 [some (.ref o), some (.int (nI there)), some (.int (nI most)), some (.int (nI n)), some (.int (nI dp)), some (.int (nI z)), none, none, none] [] s3 := by
        intro s3 z hzz h3 hlt
        have ez : nI z &&& (nI (2 ^ dp) ^^^ (-1)) = nI set := by
          rcases hzz with rfl | rfl
          · exact clr_bit hset (by omega)
          · exact clr_bit2 hset (by omega)
        refine vX3_colour_47 ok ⟨fun c => absurd c (nI_pos (by omega)), fun _ => ⟨fun _ => tw_ld_n dp rfl (by show _ < 19; omega) ?_, fun c => absurd c hne⟩⟩
        rw [h3.2.2.1 dp (by omega), show upd cs dp 2 dp = 2 by simp [upd], nI_shl (by omega), ez]
        refine ⟨fun c => absurd rfl c, fun _ => tw_st_n dp rfl (by show _ < 19; omega) ?_⟩
        refine go _ ?_ hlt set rfl
        have := cl_cs (k := dp) (x := 0) h3
        rw [upd_same, upd_id cs0] at this
        exact this
      -- second visit: the ray is a 1
      have second : ∀ s2, cl_i s B (upd cs dp 1) (c + l0.length) (mo mx l0) s2 → c + l0.length < most → tw_T G l o ad h 2 mX3_colour (tw_qv G o ad h K) 47 [some (.ref o), some (.int (nI there)), some (.int (nI most)), some (.int (nI n)), some (.int (nI dp)), some (.int (nI set)), none, none, none] [] s2 := by
        intro s2 h2 hlt
        have e2 := cl_cs (k := dp) (x := 2) h2
        rw [upd_same] at e2
        have skip : l1 = [] → tw_T G l o ad h 2 mX3_colour (tw_qv G o ad h K) 47 [some (.ref o), some (.int (nI there)), some (.int (nI most)), some (.int (nI n)), some (.int (nI dp)), some (.int (nI set)), none, none, none] [] (tw_pa s2 35 dp 2) := by
          intro q
          refine third _ set (Or.inl rfl) ?_ ?_
          · rw [q, List.append_nil]; exact e2
          · rw [q, List.append_nil]; exact hlt
        refine vX3_colour_47 ok ⟨fun c => absurd c (nI_pos (by omega)), fun _ => ⟨fun _ => tw_ld_n dp rfl (by show _ < 19; omega) ?_, fun c => absurd c hne⟩⟩
        rw [h2.2.2.1 dp (by omega), show upd cs dp 1 dp = 1 by simp [upd], nI_shl (by omega), clr_bit hset (by omega)]
        refine ⟨fun _ => tw_ld_n dp rfl (by show _ < 19; omega) ?_, fun c => absurd c (by decide)⟩
        rw [h2.2.2.1 dp (by omega), show upd cs dp 1 dp = 1 by simp [upd]]
        refine ⟨fun c => absurd rfl c, fun _ => tw_ld_n dp rfl (by show _ < 19; omega) (tw_st_n dp rfl (by show _ < 19; omega) ?_)⟩
        rw [h2.2.2.1 dp (by omega), show upd cs dp 1 dp = 1 by simp [upd], show (1 : Int32) + 1 = 2 from rfl]
        refine ⟨fun c => absurd c (by decide), fun _ => ?_⟩
        have hbit : nI there &&& nI (2 ^ dp) = 0 ↔ there.testBit dp = false := by
          have hlt : there &&& 2 ^ dp < 2 ^ 31 := Nat.lt_of_le_of_lt Nat.and_le_left (by omega)
          rw [nI_and, nI_lit 0, nI_eq hlt (by omega)]
          constructor
          · intro q
            have : (there &&& 2 ^ dp).testBit dp = false := by rw [q]; exact Nat.zero_testBit dp
            rw [Nat.testBit_and, Nat.testBit_two_pow] at this
            simpa using this
          · intro q
            apply Nat.eq_of_testBit_eq
            intro i
            rw [Nat.testBit_and, Nat.testBit_two_pow, Nat.zero_testBit]
            by_cases e : dp = i
            · subst e; simp [q]
            · simp [e]
        rw [hbit]
        refine ⟨fun q => skip ?_, fun q => tw_ld_n dp rfl (by show _ < 18; omega) ?_⟩
        · rw [← hl1, q]; rfl
        · simp only [Bool.not_eq_false] at q
          rw [e2.2.1.2.2 dp (by omega), nI_and, nI_lit 0, nI_eq (Nat.lt_of_le_of_lt Nat.and_le_left (by have := sm_lt hB.1 dp; omega)) (by omega)]
          refine ⟨fun q2 => ?_, fun q2 => skip ?_⟩
          · have hl1' : lv B there m (dp + 1) (set ||| 2 ^ dp) = l1 := by rw [← hl1, q, q2]; rfl
            have hind1 : ind B (set ||| 2 ^ dp) := by
              have hno : ∀ i, set.testBit i = true → re B dp i = false := by
                intro i hi
                have hin : i < n := by
                  apply Nat.lt_of_not_le
                  intro z
                  have := Nat.testBit_lt_two_pow (i := i) (Nat.lt_of_lt_of_le hset (Nat.pow_le_pow_right (by omega) (by omega)))
                  rw [this] at hi
                  cases hi
                have : (sm B dp &&& set).testBit i = false := by rw [q2]; exact Nat.zero_testBit i
                rw [Nat.testBit_and, hi, Bool.and_true, sm_bit (by omega)] at this
                exact this
              intro i j hi hj
              rw [Nat.testBit_or, Nat.testBit_two_pow, Bool.or_eq_true, decide_eq_true_eq] at hi hj
              rcases hi with hi | hi
              · rcases hj with hj | hj
                · exact hind i j hi hj
                · subst hj; rw [re_comm]; exact hno i hi
              · subst hi
                rcases hj with hj | hj
                · exact hno j hj
                · subst hj; exact re_self B _
            refine vX3_colour_208 ok ⟨fun c => absurd c (by decide), fun _ => ?_⟩
            rw [esh, nI_or, nI_1]
            refine tw_ci.eq (by decide) (t_isSoFar ok hB.1 e2.2.1 (by omega) (by omega) (by omega) hind1) ?_
            rw [b2i_0]
            refine ⟨fun q3 => ?_, fun q3 => skip ?_⟩
            · simp only [Bool.not_eq_false] at q3
              refine ih (dp + 1) (set ||| 2 ^ dp) (upd cs dp 2) (c + l0.length) (mo mx l0) _ (by omega) hor hind1 q3 e2 (fun k hk hk2 => ?_) hlt (molt2 _ _ hmx) (fun s'' h'' hl'' z hz' => ?_) (fun hmo => ?_)
              · simp only [upd, if_neg (show k ≠ dp by omega)]; exact hz k (by omega) hk2
              · rw [nI_m1]
                subst hz'
                rw [hl1'] at h'' hl''
                refine third s'' _ (Or.inr rfl) ?_ ?_
                · rw [List.length_append, moapp, ← Nat.add_assoc]; exact h''
                · rw [List.length_append, ← Nat.add_assoc]; exact hl''
              · rw [hl1'] at hmo
                exact stop (by rw [List.length_append, ← Nat.add_assoc]; exact hmo)
            · rw [← hl1', leaf1 q3]
          · rw [← hl1]; simp [q2]
      -- first visit: the ray is a 0
      have e1 := cl_cs (k := dp) (x := 1) hI
      refine vX3_colour_47 ok ⟨fun c => absurd c (nI_pos (by omega)), fun _ => ⟨fun _ => tw_ld_n dp rfl (by show _ < 19; omega) ?_, fun c => absurd c hne⟩⟩
      rw [hI.2.2.1 dp (by omega), cs0, nI_shl (by omega), clr_bit hset (by omega)]
      refine ⟨fun _ => tw_ld_n dp rfl (by show _ < 19; omega) ?_, fun c => absurd c (by decide)⟩
      rw [hI.2.2.1 dp (by omega), cs0]
      refine ⟨fun _ => tw_ld_n dp rfl (by show _ < 19; omega) (tw_st_n dp rfl (by show _ < 19; omega) ?_), fun c => absurd c (by decide)⟩
      rw [hI.2.2.1 dp (by omega), cs0, show (0 : Int32) + 1 = 1 from rfl]
      refine ⟨fun _ => ?_, fun c => absurd rfl c⟩
      refine vX3_colour_208 ok ⟨fun _ => ?_, fun c => absurd rfl c⟩
      rw [esh, nI_1]
      refine tw_ci.eq (by decide) (t_isSoFar ok hB.1 e1.2.1 (by omega) (by omega) (by omega) hind) ?_
      rw [b2i_0]
      refine ⟨fun q3 => ?_, fun q3 => ?_⟩
      · simp only [Bool.not_eq_false] at q3
        refine ih (dp + 1) set (upd cs dp 1) c mx _ (by omega) hset1 hind q3 e1 (fun k hk hk2 => ?_) hcm hmx (fun s'' h'' hl'' z hz' => ?_) (fun hmo => ?_)
        · simp only [upd, if_neg (show k ≠ dp by omega)]; exact hz k (by omega) hk2
        · rw [nI_m1]
          subst hz'
          rw [hl0] at h'' hl''
          exact second s'' h'' hl''
        · rw [hl0] at hmo
          exact stop (by rw [List.length_append]; omega)
      · have q4 : l0 = [] := leaf0 q3
        refine second _ ?_ ?_
        · rw [q4]; exact e1
        · rw [q4]; exact hcm
  have gd0 : gd B there 0 0 = true := by
    unfold gd
    rw [List.all_eq_true]
    intro x hx
    obtain ⟨a, b, c, d, hq⟩ := mem_cor.mp hx
    have hb : x.testBit a = true := by rw [hq.2.2.2.2.2.2.2.2.2.2]; exact (tb4 a b c d a).mpr (Or.inl rfl)
    have : subB x (2 ^ 0 - 1) = false := by
      cases q : subB x (2 ^ 0 - 1) with
      | false => rfl
      | true =>
        have ha := subB_iff.mp q a (by have := hq.1; have := hq.2.1; have := hq.2.2.1; have := hq.2.2.2.1; omega) hb
        simp at ha
    simp [this]
  have hlv : zs_lv B there = lv B there n 0 0 := by unfold zs_lv; rw [hn]
  have zero : ∀ m k s', k + m = n + 1 → tw_f1 s s' → tr_c s' B → (∀ j, j < k → s'.2.1 35 j = 0) → s'.1 36 = 0 → s'.1 37 = 0 → tw_T G l o ad h 2 mX3_colour (tw_qv G o ad h K) 21 [some (.ref o), some (.int (nI there)), some (.int (nI most)), some (.int (nI n)), some (.int (nI k)), none, none, none, none] [] s' := by
    intro m
    induction m with
    | zero =>
      intro k s' hk h1 h2 h3 h4 h5
      obtain rfl : k = n + 1 := by omega
      refine vX3_colour_21 ok ⟨fun _ => ?_, fun c => absurd ?_ c⟩
      · refine sub n 0 0 (s'.2.1 35) 0 0 s' (by omega) (by omega) (fun i j hi => by simp at hi) gd0 ⟨h1, h2, fun _ _ => rfl, h4, h5⟩ (fun k _ hk => h3 k (by omega)) (by omega) (by omega) (fun s'' h'' hl'' z hz => ?_) (fun hmo s'' h1 h2 h3 => ?_)
        · refine vX3_colour_47 ok ⟨fun _ => ?_, fun c => absurd (by decide) c⟩
          subst hK
          rw [Nat.zero_add] at h'' hl''
          exact ⟨h''.1, h''.2.1, fun _ => by rw [hlv]; exact h''.2.2.2, fun q => by rw [hlv] at q; omega⟩
        · subst hK
          rw [Nat.zero_add] at hmo
          exact ⟨h1, h2, fun q => by rw [hlv] at q; omega, fun _ => h3⟩
      · rw [nI_ltI (by omega) (by omega)]
        omega
    | succ m ih =>
      intro k s' hk h1 h2 h3 h4 h5
      refine vX3_colour_21 ok ⟨fun c => ?_, fun _ => tw_st_n k rfl (by show _ < 19; omega) ?_⟩
      · rw [nI_ltI (by omega) (by omega)] at c
        omega
      · rw [nI_1]
        refine ih (k + 1) _ (by omega) (h1.pa (by decide)) ⟨h2.1, fun j x hj => by rw [pa_no (by decide)]; exact h2.2.1 j x hj, fun a ha => by rw [pa_no (by decide)]; exact h2.2.2 a ha⟩ (fun j hj => ?_) h4 h5
        by_cases e : j = k
        · subst e; exact pa_eq
        · rw [pa_ne e]; exact h3 j (by omega)
  refine wq_C.of pn_X3 (Nat.le_of_ble_eq_true rfl) rfl (vX3_colour_0 ok (tw_ld_n 85 rfl (by decide) ?_))
  rw [h85]
  show tw_T G l o ad h 2 mX3_colour (tw_qv G o ad h K) 21 _ _ (tw_pi (tw_pi s 36 0) 37 0)
  refine zero (n + 1) 0 _ (by omega) (((tw_f1.refl s).pi (by decide)).pi (by decide)) ⟨by rw [pi_ne (by decide), pi_ne (by decide)]; exact hc.1, hc.2.1, hc.2.2⟩ (fun j hj => by omega) ?_ pi_eq
  rw [pi_ne (by decide)]
  exact pi_eq
theorem t_hasColour (ok : tw_ok G o ad) (hB : tr_b s L B) (hc : tr_c s B) {there : Nat} (ht : there < 2 ^ 18) : wq_C G l 3 0 0 mX3_hasColour [.ref o, .int (nI there)] (tw_h G o ad s h) (tw_qi G o ad h fun r s' => r = b2i (decide (zs_lv B there ≠ [])) ∧ tw_f1 s s' ∧ tr_c s' B) := by
  refine wq_C.of pn_X3 (Nat.le_of_ble_eq_true rfl) rfl (vX3_hasColour_0 ok (tw_cv.use (by decide) (t_colour ok hB hc ht (most := 1) (by omega) (by omega)) ?_))
  rintro s' ⟨h1, h2, h3, h4⟩
  by_cases e : zs_lv B there = []
  · have := (h3 (by rw [e]; decide)).1
    rw [this, e]
    exact ⟨fun _ => ⟨b2i_not (by simp), h1, h2⟩, fun c => absurd (by decide) c⟩
  · have := h4 (by cases q : zs_lv B there with
      | nil => exact absurd q e
      | cons x l => simp)
    rw [this]
    exact ⟨fun c => absurd c (by decide), fun c => ⟨b2i_of e, h1, h2⟩⟩
theorem lvs_lt (hB : zs_bok L B) (there : Nat) : (zs_lv B there).length ≤ 2 ^ 18 := Nat.le_trans (lv_len B there _ 0 0) (pow_9 hB.2.2.2.1)
theorem ray_lt (hB : zs_bok L B) : 2 ^ B.2.2.1.length - 1 < 2 ^ 18 := by
  have := pow_9 hB.2.2.2.1
  have := Nat.two_pow_pos B.2.2.1.length
  omega
theorem t_colours (ok : tw_ok G o ad) (b : Bool) (hb : s.1 14 = b2i b) (hB : b = true → tr_b s L B) : wq_C G l 3 0 0 mX3_colours [.ref o] (tw_h G o ad s h) (tw_qi G o ad h (tw_e s (if b then nI (zs_lv B (2 ^ B.2.2.1.length - 1)).length else -1) (if b then 0 else 1))) := by
  refine wq_C.of pn_X3 (Nat.le_of_ble_eq_true rfl) rfl (vX3_colours_0 ok (tw_cv.eq (by decide) (t_good ok) ?_))
  rw [tw_g_14, hb, b2i_0]
  refine ⟨fun c => ?_, fun c => ?_⟩
  · simp only [Bool.not_eq_false] at c
    subst c
    have hB' : tr_b (tw_g s) L B := hB rfl
    have hl := lvs_lt hB'.1 (2 ^ B.2.2.1.length - 1)
    refine tw_cv.use (by decide) (t_layCorners ok hB') ?_
    rintro s1 ⟨hf, hc⟩
    refine tw_ci.eq (by decide) (t_allRays ok (hB'.f1 hf)) (tw_cv.use (by decide) (t_colour ok (hB'.f1 hf) hc (ray_lt hB'.1) (most := 1048576) (by omega) (by omega)) ?_)
    rintro s2 ⟨h1, -, h3, -⟩
    rw [(h3 (by omega)).1]
    exact ⟨rfl, (tw_g_fr s).trans (hf.trans h1).1, (hf.trans h1).2⟩
  · subst c
    exact tw_ci.is (by decide) (t_no ok 1) tw_e_no
theorem tw_e_no' {s s1 : tw_S} (hf : tw_f1 (tw_g s) s1) {x : Int32} : tw_e s (-1) x (-1) (tw_pi s1 11 x) := ⟨rfl, ((tw_g_fr s).trans hf.1).trans (tw_fr_pi (by decide)), tw_pi_same⟩
theorem tw_e_f {s s1 : tw_S} (hf : tw_f1 (tw_g s) s1) {v : Int32} : tw_e s v 0 v s1 := ⟨rfl, (tw_g_fr s).trans hf.1, hf.2⟩
theorem t_ones (ok : tw_ok G o ad) (b : Bool) (hb : s.1 14 = b2i b) (hB : b = true → tr_b s L B) : wq_C G l 3 0 0 mX3_ones [.ref o] (tw_h G o ad s h) (tw_qi G o ad h (tw_e s (if b then (if zs_lv B (2 ^ B.2.2.1.length - 1) = [] then -1 else nI (mo 0 (zs_lv B (2 ^ B.2.2.1.length - 1)))) else -1) (if b then (if zs_lv B (2 ^ B.2.2.1.length - 1) = [] then 6 else 0) else 1))) := by
  refine wq_C.of pn_X3 (Nat.le_of_ble_eq_true rfl) rfl (vX3_ones_0 ok (tw_cv.eq (by decide) (t_good ok) ?_))
  rw [tw_g_14, hb, b2i_0]
  refine ⟨fun c => ?_, fun c => ?_⟩
  · simp only [Bool.not_eq_false] at c
    subst c
    have hB' : tr_b (tw_g s) L B := hB rfl
    have hl := lvs_lt hB'.1 (2 ^ B.2.2.1.length - 1)
    refine tw_cv.use (by decide) (t_layCorners ok hB') ?_
    rintro s1 ⟨hf, hc⟩
    refine tw_ci.eq (by decide) (t_allRays ok (hB'.f1 hf)) (tw_cv.use (by decide) (t_colour ok (hB'.f1 hf) hc (ray_lt hB'.1) (most := 1048576) (by omega) (by omega)) ?_)
    rintro s2 ⟨h1, -, h3, -⟩
    obtain ⟨e1, e2⟩ := h3 (by omega)
    rw [e1, e2, nI_lit 0, nI_eq (by omega) (by omega), List.length_eq_zero_iff]
    refine ⟨fun c => ?_, fun c => ?_⟩
    · simp only [if_true, if_neg c]
      exact tw_e_f (hf.trans h1)
    · simp only [if_true, if_pos c]
      exact tw_ci.is (by decide) (t_no ok 6) (tw_e_no' (hf.trans h1))
  · subst c
    exact tw_ci.is (by decide) (t_no ok 1) tw_e_no
/-- rays without which there is a colouring no more; rays left when all that are not needed are gone -/
def zs_spare (B : zs_B) : Nat := bs (fun k => decide (zs_lv B ((2 ^ B.2.2.1.length - 1) ^^^ 2 ^ k) = [])) B.2.2.1.length
def zs_crit (B : zs_B) : Nat → Nat
  | 0 => 2 ^ B.2.2.1.length - 1
  | k + 1 => if zs_lv B (zs_crit B k ^^^ 2 ^ k) = [] then zs_crit B k ^^^ 2 ^ k else zs_crit B k
theorem clr_bit3 {x k : Nat} (hx : x < 2 ^ 18) (hk : k < 18) (hb : x.testBit k = true) : nI x &&& (nI (2 ^ k) ^^^ (-1)) = nI (x ^^^ 2 ^ k) := by
  have hbt : ∀ n j, j < 32 → bt (nI n) j = n.testBit j := by
    intro n j hj
    show (BitVec.ofNat 32 n).getLsbD j = _
    rw [BitVec.getLsbD_ofNat]
    simp [hj]
  refine b_ext fun i hi => ?_
  rw [b_and, b_xor, b_m1 i hi, hbt x i hi, hbt (2 ^ k) i hi, hbt _ i hi, Nat.testBit_xor, Nat.testBit_two_pow]
  by_cases e : k = i
  · subst e; simp [hb]
  · simp [e]
theorem crit_bit (B : zs_B) : ∀ k, k ≤ B.2.2.1.length → zs_crit B k < 2 ^ B.2.2.1.length ∧ ∀ i, k ≤ i → i < B.2.2.1.length → (zs_crit B k).testBit i = true := by
  intro k
  induction k with
  | zero =>
    intro _
    have := Nat.two_pow_pos B.2.2.1.length
    refine ⟨by simp only [zs_crit]; omega, fun i _ hi => ?_⟩
    simp only [zs_crit]
    rw [Nat.testBit_two_pow_sub_one]
    simpa using hi
  | succ k ih =>
    intro hk
    obtain ⟨h1, h2⟩ := ih (by omega)
    simp only [zs_crit]
    split
    · refine ⟨xor_lt h1 (by omega), fun i hi1 hi2 => ?_⟩
      rw [xor_bit, h2 i (by omega) hi2]
      simp [show k ≠ i by omega]
    · exact ⟨h1, fun i hi1 hi2 => h2 i (by omega) hi2⟩
theorem t_spare (ok : tw_ok G o ad) (b : Bool) (hb : s.1 14 = b2i b) (hB : b = true → tr_b s L B) : wq_C G l 4 0 0 mX3_spare [.ref o] (tw_h G o ad s h) (tw_qi G o ad h (tw_e s (if b then (if zs_lv B (2 ^ B.2.2.1.length - 1) = [] then nI (zs_spare B) else 0) else -1) (if b then 0 else 1))) := by
  refine wq_C.of pn_X3 (Nat.le_of_ble_eq_true rfl) rfl (vX3_spare_0 ok (tw_cv.eq (by decide) (t_good ok) ?_))
  rw [tw_g_14, hb, b2i_0]
  refine ⟨fun c => ?_, fun c => ?_⟩
  · simp only [Bool.not_eq_false] at c
    subst c
    have hB' : tr_b (tw_g s) L B := hB rfl
    have h18 := hB'.1.2.2.2.1
    have hall := ray_lt hB'.1
    refine tw_cv.use (by decide) (t_layCorners ok hB') ?_
    rintro s1 ⟨hf, hc⟩
    refine tw_ci.eq (by decide) (t_allRays ok (hB'.f1 hf)) (tw_ci.use (by decide) (t_hasColour ok (hB'.f1 hf) hc hall) ?_)
    rintro x s2 ⟨rfl, hf2, hc2⟩
    rw [b2i_0]
    simp only [if_true, decide_eq_false_iff_not, Decidable.not_not, ne_eq]
    refine ⟨fun c => ?_, fun c => ?_⟩
    · rw [if_pos c]
      have key : ∀ m k s', k + m = B.2.2.1.length → tw_f1 (tw_g s) s' → tr_c s' B → tw_T G l o ad h 4 mX3_spare (tw_qi G o ad h (tw_e s (nI (zs_spare B)) 0)) 38 [some (.ref o), some (.int (nI (bs (fun k => decide (zs_lv B ((2 ^ B.2.2.1.length - 1) ^^^ 2 ^ k) = [])) k))), some (.int (nI k))] [] s' := by
        intro m
        induction m with
        | zero =>
          intro k s' hk h1 h2
          obtain rfl : k = B.2.2.1.length := by omega
          refine vX3_spare_38 ok (tw_ld_n 85 rfl (by decide) ?_)
          rw [(hB'.f1 h1).2.2.2.2.1]
          exact ⟨fun _ => tw_e_f h1, fun c => absurd (Int32.le_refl _) c⟩
        | succ m ih =>
          intro k s' hk h1 h2
          have hbs := bs_lt (fun k => decide (zs_lv B ((2 ^ B.2.2.1.length - 1) ^^^ 2 ^ k) = [])) k
          refine vX3_spare_38 ok (tw_ld_n 85 rfl (by decide) ?_)
          rw [(hB'.f1 h1).2.2.2.2.1]
          refine ⟨fun c => ?_, fun _ => tw_ci.eq (by decide) (t_allRays ok (hB'.f1 h1)) ?_⟩
          · rw [nI_leI (by omega) (by omega)] at c
            omega
          · have hbit : (2 ^ B.2.2.1.length - 1).testBit k = true := by rw [Nat.testBit_two_pow_sub_one]; simp; omega
            rw [nI_shl (by omega), clr_bit3 hall (by omega) hbit]
            refine tw_ci.use (by decide) (t_hasColour ok (hB'.f1 h1) h2 (xor_lt hall (by omega))) ?_
            rintro x s3 ⟨rfl, hf3, hc3⟩
            rw [b2i_0]
            simp only [decide_eq_false_iff_not, Decidable.not_not, ne_eq]
            have go := ih (k + 1) s3 (by omega) (h1.trans hf3) hc3
            rw [nI_1]
            refine ⟨fun c => ?_, fun c => ?_⟩
            · rw [nI_or, or_pow hbs]
              simpa [bs, c] using go
            · rw [show ∀ y : Nat, nI y ||| 0 = nI y from fun y => Int32.or_zero]
              simpa [bs, c] using go
      exact key B.2.2.1.length 0 s2 (by omega) (hf.trans hf2) hc2
    · rw [if_neg c]
      exact tw_e_f (hf.trans hf2)
  · subst c
    exact tw_ci.is (by decide) (t_no ok 1) tw_e_no
theorem t_critical (ok : tw_ok G o ad) (b : Bool) (hb : s.1 14 = b2i b) (hB : b = true → tr_b s L B) : wq_C G l 4 0 0 mX3_critical [.ref o] (tw_h G o ad s h) (tw_qi G o ad h (tw_e s (if b then (if zs_lv B (2 ^ B.2.2.1.length - 1) = [] then nI (zs_crit B B.2.2.1.length) else -1) else -1) (if b then (if zs_lv B (2 ^ B.2.2.1.length - 1) = [] then 0 else 6) else 1))) := by
  refine wq_C.of pn_X3 (Nat.le_of_ble_eq_true rfl) rfl (vX3_critical_0 ok (tw_cv.eq (by decide) (t_good ok) ?_))
  rw [tw_g_14, hb, b2i_0]
  refine ⟨fun c => ?_, fun c => ?_⟩
  · simp only [Bool.not_eq_false] at c
    subst c
    have hB' : tr_b (tw_g s) L B := hB rfl
    have h18 := hB'.1.2.2.2.1
    have hall := ray_lt hB'.1
    refine tw_cv.use (by decide) (t_layCorners ok hB') ?_
    rintro s1 ⟨hf, hc⟩
    refine tw_ci.eq (by decide) (t_allRays ok (hB'.f1 hf)) (tw_ci.use (by decide) (t_hasColour ok (hB'.f1 hf) hc hall) ?_)
    rintro x s2 ⟨rfl, hf2, hc2⟩
    rw [b2i_0]
    simp only [if_true, decide_eq_false_iff_not, Decidable.not_not, ne_eq]
    refine ⟨fun c => ?_, fun c => ?_⟩
    · rw [if_pos c, if_pos c]
      refine tw_ci.eq (by decide) (t_allRays ok (hB'.f1 (hf.trans hf2))) ?_
      have key : ∀ m k s', k + m = B.2.2.1.length → tw_f1 (tw_g s) s' → tr_c s' B → tw_T G l o ad h 4 mX3_critical (tw_qi G o ad h (tw_e s (nI (zs_crit B B.2.2.1.length)) 0)) 46 [some (.ref o), some (.int (nI (zs_crit B k))), some (.int (nI k))] [] s' := by
        intro m
        induction m with
        | zero =>
          intro k s' hk h1 h2
          obtain rfl : k = B.2.2.1.length := by omega
          refine vX3_critical_46 ok (tw_ld_n 85 rfl (by decide) ?_)
          rw [(hB'.f1 h1).2.2.2.2.1]
          exact ⟨fun _ => tw_e_f h1, fun c => absurd (Int32.le_refl _) c⟩
        | succ m ih =>
          intro k s' hk h1 h2
          obtain ⟨hlt, hbit⟩ := crit_bit B k (by omega)
          have hp := pow_9 h18
          refine vX3_critical_46 ok (tw_ld_n 85 rfl (by decide) ?_)
          rw [(hB'.f1 h1).2.2.2.2.1]
          refine ⟨fun c => ?_, fun _ => ?_⟩
          · rw [nI_leI (by omega) (by omega)] at c
            omega
          · rw [nI_shl (by omega), clr_bit3 (by omega) (by omega) (hbit k (by omega) (by omega))]
            refine tw_ci.use (by decide) (t_hasColour ok (hB'.f1 h1) h2 (xor_lt (by omega) (by omega))) ?_
            rintro x s3 ⟨rfl, hf3, hc3⟩
            rw [b2i_0]
            simp only [decide_eq_false_iff_not, Decidable.not_not, ne_eq]
            have go := ih (k + 1) s3 (by omega) (h1.trans hf3) hc3
            rw [nI_1]
            refine ⟨fun c => ?_, fun c => ?_⟩
            · simpa [zs_crit, c] using go
            · simpa [zs_crit, c] using go
      exact key B.2.2.1.length 0 s2 (by omega) (hf.trans hf2) hc2
    · rw [if_neg c, if_neg c]
      exact tw_ci.is (by decide) (t_no ok 6) (tw_e_no' (hf.trans hf2))
  · subst c
    exact tw_ci.is (by decide) (t_no ok 1) tw_e_no
end TW12
