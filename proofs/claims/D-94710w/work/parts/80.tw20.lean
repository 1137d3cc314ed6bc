/-! THE DESK: the common value of both sides; CONTRACTS of the reference: acts -/
set_option maxRecDepth 100000
/-- looks, tries, book, table, acts done and undone with the tables that they were done to, marks -/
abbrev zs_K : Type := Nat × Nat × zs_B × zs_T × List (zs_A × zs_T) × List (zs_A × zs_T) × List zs_T
/-- tape, how much of it, fault, place, trouble, what is read -/
abbrev zs_D : Type := (Nat → Nat) × Nat × Int32 × Int32 × Int32 × Option zs_K
def kok (K : zs_K) : Prop := zs_ok K.1 K.2.1 K.2.2.2.1 ∧ zs_bok K.1 K.2.2.1 ∧ (1 ≤ K.1 ∧ K.1 ≤ 6) ∧ (1 ≤ K.2.1 ∧ K.2.1 ≤ 60) ∧ (∀ x ∈ K.2.2.2.2.1, zs_ok K.1 K.2.1 x.2) ∧ (∀ x ∈ K.2.2.2.2.2.1, zs_ok K.1 K.2.1 x.2) ∧ (∀ x ∈ K.2.2.2.2.2.2, zs_ok K.1 K.2.1 x) ∧ K.2.2.2.2.1.length + K.2.2.2.2.2.1.length ≤ 20 ∧ K.2.2.2.2.2.2.length ≤ 4
def dok (D : zs_D) : Prop := (∀ k, D.1 k < 256) ∧ D.2.1 ≤ 900 ∧ ∀ K, D.2.2.2.2.2 = some K → kok K
def dk_t (D : zs_D) (t : Int32) : zs_D := (D.1, D.2.1, D.2.2.1, D.2.2.2.1, t, D.2.2.2.2.2)
def dk_k (D : zs_D) (K : zs_K) : zs_D := (D.1, D.2.1, D.2.2.1, D.2.2.2.1, 0, some K)
def mkA (a b c d e : Int32) : zs_A := fun j => if j = 0 then a else if j = 1 then b else if j = 2 then c else if j = 3 then d else e
/-- an act done: the table as it was goes to the others -/
def dk_act (D : zs_D) (K : zs_K) (T : zs_T) (a : zs_A) : zs_D := dk_k D (K.1, K.2.1, K.2.2.1, T, pushA K.2.2.2.2.1 (a, K.2.2.2.1), [], K.2.2.2.2.2.2)
def mk_at (a : Nat → Int32) (q : List zs_T) : Prop := ∀ i x, q[i]? = some x → x.length ≤ 8 ∧ ta_tab (fun j => a (49 * i + j)) x
def tr_o (s : tw_S) (D : zs_D) : Prop := (∀ k, k < D.2.1 → s.2.1 1 k = nI (D.1 k)) ∧ s.1 2 = nI D.2.1 ∧ s.1 9 = D.2.2.1 ∧ s.1 10 = D.2.2.2.1
def tr_h (s : tw_S) (K : zs_K) : Prop := s.1 24 = nI K.2.2.2.2.1.length ∧ hist (s.2.1 19) (s.2.1 22) K.2.2.2.2.1 ∧ s.1 25 = nI K.2.2.2.2.2.1.length ∧ hist (s.2.1 20) (s.2.1 23) K.2.2.2.2.2.1 ∧ s.1 26 = nI K.2.2.2.2.2.2.length ∧ mk_at (s.2.1 21) K.2.2.2.2.2.2
def tr_k (s : tw_S) (K : zs_K) : Prop := s.1 14 = 1 ∧ tr_q s K.1 K.2.1 K.2.2.2.1 ∧ tr_b s K.1 K.2.2.1 ∧ tr_h s K
def tr_n (s : tw_S) : Prop := s.1 14 = 0 ∧ s.1 24 = 0 ∧ s.1 25 = 0 ∧ s.1 26 = 0
def tr_d (s : tw_S) (D : zs_D) : Prop := tr_o s D ∧ s.1 11 = D.2.2.2.2.1 ∧ match D.2.2.2.2.2 with
  | none => tr_n s
  | some K => tr_k s K
theorem tr_d.n {s : tw_S} {D : zs_D} (h : tr_d s D) (e : D.2.2.2.2.2 = none) : tr_n s := by
  have := h.2.2; rw [e] at this; exact this
theorem tr_d.k {s : tw_S} {D : zs_D} {K : zs_K} (h : tr_d s D) (e : D.2.2.2.2.2 = some K) : tr_k s K := by
  have := h.2.2; rw [e] at this; exact this
theorem tr_d.b {s : tw_S} {D : zs_D} (h : tr_d s D) : s.1 14 = b2i D.2.2.2.2.2.isSome := by
  cases e : D.2.2.2.2.2 with
  | none => exact (h.n e).1
  | some K => exact (h.k e).1
theorem tr_q.fr {s s' : tw_S} {L N : Nat} {T : zs_T} (h : tr_q s L N T) (hf : tw_fr s s') : tr_q s' L N T := by
  have e15 := hf.2 15 (by decide)
  have e17 := hf.2 17 (by decide)
  unfold tr_q at *
  rw [e15, e17]; exact h
theorem tr_b.fr {s s' : tw_S} {L : Nat} {B : zs_B} (h : tr_b s L B) (hf : tw_fr s s') : tr_b s' L B := by
  have e15 := hf.2 15 (by decide)
  unfold tr_b at *
  rw [e15]; exact h
theorem tr_o.fr {s s' : tw_S} {D : zs_D} (h : tr_o s D) (hf : tw_fr s s') : tr_o s' D := by
  unfold tr_o at *
  rw [hf.2 1 (by decide), hf.1 2 (by decide), hf.1 9 (by decide), hf.1 10 (by decide)]; exact h
theorem tr_h.fr {s s' : tw_S} {K : zs_K} (h : tr_h s K) (hf : tw_fr s s') : tr_h s' K := by
  unfold tr_h at *
  rw [hf.2 19 (by decide), hf.2 20 (by decide), hf.2 21 (by decide), hf.2 22 (by decide), hf.2 23 (by decide), hf.1 24 (by decide), hf.1 25 (by decide), hf.1 26 (by decide)]; exact h
theorem tr_k.fr {s s' : tw_S} {K : zs_K} (h : tr_k s K) (hf : tw_fr s s') : tr_k s' K :=
  ⟨(hf.1 14 (by decide)).trans h.1, h.2.1.fr hf, h.2.2.1.fr hf, h.2.2.2.fr hf⟩
theorem tr_n.fr {s s' : tw_S} (h : tr_n s) (hf : tw_fr s s') : tr_n s' :=
  ⟨(hf.1 14 (by decide)).trans h.1, (hf.1 24 (by decide)).trans h.2.1, (hf.1 25 (by decide)).trans h.2.2.1, (hf.1 26 (by decide)).trans h.2.2.2⟩
/-- a call that asks leaves the desk, but for trouble -/
theorem tr_d.ask {s s' : tw_S} {D : zs_D} {v t r : Int32} (h : tr_d s D) (e : tw_e s v t r s') : r = v ∧ tr_d s' (dk_t D t) := by
  obtain ⟨rfl, hf, ht⟩ := e
  refine ⟨rfl, h.1.fr hf, ht, ?_⟩
  show match D.2.2.2.2.2 with
    | none => tr_n s'
    | some K => tr_k s' K
  cases e : D.2.2.2.2.2 with
  | none => exact (h.n e).fr hf
  | some K => exact (h.k e).fr hf
/-- how a set's outcomes change when the answers to a look do -/
def zs_by (e : zs_E) (l : Nat) : Nat := if e.2.1 = none then (if e.1 = l then 1 else 0) else if e.1 = l then 2 else if e.2.1 = some l then 1 else 0
def zs_flp (e : zs_E) (l : Nat) : zs_E := (e.1, e.2.1, fun o => e.2.2.1 (o ^^^ zs_by e l), fun o => e.2.2.2 (o ^^^ zs_by e l))
/-- without coins -/
def zs_nc (T : zs_T) : zs_T := T.map (fun e => (e.1, e.2.1, e.2.2.1, fun _ => 0))
/-- a set without a look -/
def zs_wo (l : Nat) (e : zs_E) : Option zs_E := if e.1 = l then (match e.2.1 with
    | none => none
    | some b => some (b, none, fun o => if o = 0 then e.2.2.1 0 + e.2.2.1 2 else e.2.2.1 1 + e.2.2.1 3, fun _ => 0))
  else if e.2.1 = some l then some (e.1, none, fun o => if o = 0 then e.2.2.1 0 + e.2.2.1 1 else e.2.2.1 2 + e.2.2.1 3, fun _ => 0) else some e
def zs_isof (e : zs_E) (l : Nat) : Bool := decide (e.1 = l) || decide (e.2.1 = some l)
/-- times moved from one outcome to another -/
def zs_shf (e : zs_E) (x y n : Nat) : zs_E := (e.1, e.2.1, fun o => if o = x then e.2.2.1 x - n else if o = y then e.2.2.1 y + n else e.2.2.1 o, e.2.2.2)
def zs_stk (e : zs_E) (x c : Nat) : zs_E := (e.1, e.2.1, e.2.2.1, fun o => if o = x then c else e.2.2.2 o)
/-! what each act makes of the desk: its answer, the desk -/
def dk_flip (D : zs_D) (x : Int32) : Int32 × zs_D := match D.2.2.2.2.2 with
  | none => (0, dk_t D 1)
  | some K => if inB x K.1 then (1, dk_act D K (K.2.2.2.1.map (fun e => zs_flp e x.toNatClampNeg)) (mkA 0 x (-2) (-2) (-2))) else (0, dk_t D 1)
def dk_drop (D : zs_D) (x : Int32) : Int32 × zs_D := match D.2.2.2.2.2 with
  | none => (0, dk_t D 1)
  | some K => if inB x K.2.2.2.1.length then (1, dk_act D K (K.2.2.2.1.eraseIdx x.toNatClampNeg) (mkA 1 x (-2) (-2) (-2))) else (0, dk_t D 1)
def dk_forget (D : zs_D) (x : Int32) : Int32 × zs_D := match D.2.2.2.2.2 with
  | none => (0, dk_t D 1)
  | some K => if inB x K.1 then (if K.2.2.2.1.any (fun e => zs_isof e x.toNatClampNeg) then (1, dk_act D K (K.2.2.2.1.filterMap (zs_wo x.toNatClampNeg)) (mkA 2 x (-2) (-2) (-2))) else (0, dk_t D 5)) else (0, dk_t D 1)
def dk_shift (D : zs_D) (x y z n : Int32) : Int32 × zs_D := match D.2.2.2.2.2 with
  | none => (0, dk_t D 1)
  | some K => if zs_isO K.2.2.2.1 x y && (zs_isO K.2.2.2.1 x z && decide (y ≠ z)) then (if decide ((1 : Int32) ≤ n ∧ n ≤ 60) then (if n ≤ nI ((zs_at K.2.2.2.1 x.toNatClampNeg).2.2.1 y.toNatClampNeg) then (1, dk_act D K (K.2.2.2.1.set x.toNatClampNeg (zs_shf (zs_at K.2.2.2.1 x.toNatClampNeg) y.toNatClampNeg z.toNatClampNeg n.toNatClampNeg)) (mkA 3 x y z n)) else (0, dk_t D 5)) else (0, dk_t D 2)) else (0, dk_t D 1)
def dk_stake (D : zs_D) (x y c : Int32) : Int32 × zs_D := match D.2.2.2.2.2 with
  | none => (0, dk_t D 1)
  | some K => if zs_isO K.2.2.2.1 x y then (if inB c 100 then (1, dk_k D (K.1, K.2.1, K.2.2.1, K.2.2.2.1.set x.toNatClampNeg (zs_stk (zs_at K.2.2.2.1 x.toNatClampNeg) y.toNatClampNeg c.toNatClampNeg), K.2.2.2.2)) else (0, dk_t D 2)) else (0, dk_t D 1)
def dk_undo (D : zs_D) : Int32 × zs_D := match D.2.2.2.2.2 with
  | none => (0, dk_t D 6)
  | some K => match K.2.2.2.2.1.getLast? with
    | none => (0, dk_t D 6)
    | some x => (1, dk_k D (K.1, K.2.1, K.2.2.1, zs_nc x.2, K.2.2.2.2.1.dropLast, K.2.2.2.2.2.1 ++ [(x.1, K.2.2.2.1)], K.2.2.2.2.2.2))
def dk_redo (D : zs_D) : Int32 × zs_D := match D.2.2.2.2.2 with
  | none => (0, dk_t D 6)
  | some K => match K.2.2.2.2.2.1.getLast? with
    | none => (0, dk_t D 6)
    | some x => (1, dk_k D (K.1, K.2.1, K.2.2.1, zs_nc x.2, K.2.2.2.2.1 ++ [(x.1, K.2.2.2.1)], K.2.2.2.2.2.1.dropLast, K.2.2.2.2.2.2))
def dk_mark (D : zs_D) : Int32 × zs_D := match D.2.2.2.2.2 with
  | none => (-1, dk_t D 1)
  | some K => if K.2.2.2.2.2.2.length = 4 then (-1, dk_t D 3) else (nI K.2.2.2.2.2.2.length, dk_k D (K.1, K.2.1, K.2.2.1, K.2.2.2.1, K.2.2.2.2.1, K.2.2.2.2.2.1, K.2.2.2.2.2.2 ++ [zs_nc K.2.2.2.1]))
def dk_back (D : zs_D) (x : Int32) : Int32 × zs_D := match D.2.2.2.2.2 with
  | none => (0, dk_t D 1)
  | some K => if inB x K.2.2.2.2.2.2.length then (1, dk_k D (K.1, K.2.1, K.2.2.1, zs_nc ((K.2.2.2.2.2.2[x.toNatClampNeg]?).getD []), [], [], K.2.2.2.2.2.2)) else (0, dk_t D 1)
def dk_actq (D : zs_D) (x y : Int32) : Int32 × zs_D := match D.2.2.2.2.2 with
  | none => (-1, dk_t D 1)
  | some K => if inB x K.2.2.2.2.1.length && inB y 5 then ((((K.2.2.2.2.1[x.toNatClampNeg]?).map (fun q => q.1 y.toNatClampNeg)).getD 0), dk_t D 0) else (-1, dk_t D 1)
section TW20
variable {G : wq_G} {l : Launch} {o : Nat} {ad : Nat → Nat} {h : wq_H} {s : tw_S} {D : zs_D}
theorem sa_1 {j : Nat} {f : Nat → Int32} : (tw_sa s j f).1 = s.1 := rfl
theorem tr_o.of {s' : tw_S} (h : tr_o s D) (h1 : s'.2.1 1 = s.2.1 1) (h2 : s'.1 2 = s.1 2) (h9 : s'.1 9 = s.1 9) (h10 : s'.1 10 = s.1 10) : tr_o s' D := by
  unfold tr_o at *; rw [h1, h2, h9, h10]; exact h
theorem tr_b.of {s' : tw_S} {L : Nat} {B : zs_B} (h : tr_b s L B) (e : ∀ i, 51 ≤ i → s'.2.1 15 i = s.2.1 15 i) : tr_b s' L B := by
  obtain ⟨h0, h1, h2, h3, h4, h5, h6, h7⟩ := h
  refine ⟨h0, by rw [e 51 (by omega)]; exact h1, by rw [e 52 (by omega)]; exact h2, fun n hn => ⟨fun k hk => by rw [e _ (by omega)]; exact (h3 n hn).1 k hk, by rw [e _ (by omega)]; exact (h3 n hn).2⟩, by rw [e 85 (by omega)]; exact h4, fun n hn k hk => by rw [e _ (by omega)]; exact h5 n hn k hk, by rw [e 158 (by omega)]; exact h6, fun u hu => ⟨by rw [e _ (by omega)]; exact (h7 u hu).1, fun n x hx => ⟨by rw [e _ (by omega)]; exact ((h7 u hu).2 n x hx).1, by rw [e _ (by omega)]; exact ((h7 u hu).2 n x hx).2⟩⟩⟩
theorem pushA_le {q : List (zs_A × zs_T)} {x : zs_A × zs_T} (h : q.length ≤ 20) : (pushA q x).length ≤ 20 ∧ (pushA q x).length = if q.length = 20 then 20 else q.length + 1 := by
  unfold pushA
  by_cases c : q.length = 20
  · simp [c]
  · simp [c]; omega
theorem t_did (ok : tw_ok G o ad) {q : List (zs_A × zs_T)} (hq : q.length ≤ 20) (h24 : s.1 24 = nI q.length) (hh : hist (s.2.1 19) (s.2.1 22) q) {T : zs_T} (h8 : T.length ≤ 8) (hx : ta_tab (s.2.1 18) T) (a b c d e : Int32) : wq_C G l 2 0 0 mX3_did [.ref o, .int a, .int b, .int c, .int d, .int e] (tw_h G o ad s h) (tw_qi G o ad h fun r s' => r = 1 ∧ ∃ F A, s' = tw_pi (tw_pi (tw_sa (tw_sa s 19 F) 22 A) 24 (nI (pushA q (mkA a b c d e, T)).length)) 25 0 ∧ hist F A (pushA q (mkA a b c d e, T))) := by
  refine wq_C.of pn_X3 (Nat.le_of_ble_eq_true rfl) rfl (vX3_did_0 ok ?_)
  rw [h24]
  have kp := t_keep (h := h) (l := l) ok (Or.inl ⟨rfl, rfl⟩) (mkA a b c d e, T) hq hh h8 hx
  refine tw_cv.use (by decide) kp ?_
  rintro s1 ⟨F, A, rfl, hF⟩
  have e24 : (tw_sa (tw_sa s 19 F) 22 A).1 24 = nI q.length := h24
  rw [e24]
  obtain ⟨p1, p2⟩ := pushA_le (x := (mkA a b c d e, T)) hq
  have e20 : nI q.length = 20 ↔ q.length = 20 := nI_eq (b := 20) (by omega) (by omega)
  rw [e20]
  refine ⟨fun c => ⟨rfl, F, A, ?_, hF⟩, fun c => ⟨rfl, F, A, ?_, hF⟩⟩
  · rw [p2, if_neg c, nI_1]
  · rw [p2, if_pos c]; rfl
end TW20
