/-! THE DESK of the component as it lies in the heap; CONTRACTS of the component: asked of the table -/
set_option maxRecDepth 100000
/-- zones: 1 what is never changed any more, 2 the table, 3 past, 4 future, 5 marks, 6 the program, 7 the tape, 8 the object -/
def cz (G : wq_G) (h : wq_H) (Z : Nat → Nat → Prop) : Prop := (∀ i a, Z i a → G.1 ≤ a ∧ h a ≠ none) ∧ ∀ i j a, Z i a → Z j a → i = j
def own (Z : Nat → Nat → Prop) (a : Nat) : Prop := ∃ i, Z i a
theorem cz.hx {G : wq_G} {h h' : wq_H} {Z : Nat → Nat → Prop} {P : Nat → Prop} (k : cz G h Z) (q : hx P h h') : cz G h' Z := ⟨fun i a ha => ⟨(k.1 i a ha).1, q.2 a (k.1 i a ha).2⟩, k.2⟩
/-- a list of things -/
def lo_at {α : Type} (G : wq_G) (h : wq_H) (P : Nat → Prop) (a : Nat) (R : Nat → α → Prop) (xs : List α) : Prop := ∃ (es : List Nat) (j : Nat), al_j G h P a es j ∧ es.length = xs.length ∧ ∀ (i p : Nat) (x : α), es[i]? = some p → xs[i]? = some x → R p x
theorem lo_at.frame {α : Type} {G : wq_G} {h h' : wq_H} {P : Nat → Prop} {a : Nat} {R R' : Nat → α → Prop} {xs : List α} (k : lo_at G h P a R xs) (hk : kon G h') (hf : ∀ b e, P b → h b = some e → h' b = some e) (hR : ∀ p x, R p x → R' p x) : lo_at G h' P a R' xs := by
  obtain ⟨es, j, k1, k2, k3⟩ := k
  exact ⟨es, j, k1.frame hk hf, k2, fun i p x h1 h2 => hR p x (k3 i p x h1 h2)⟩
theorem lo_at.at {α : Type} {G : wq_G} {h : wq_H} {P : Nat → Prop} {a : Nat} {R : Nat → α → Prop} {xs : List α} (k : lo_at G h P a R xs) : ∃ es ba, al_at G h a ba es ∧ es.length = xs.length ∧ ∀ (i : Nat) (x : α), xs[i]? = some x → ∃ p, es[i]? = some p ∧ R p x := by
  obtain ⟨es, j, k1, k2, k3⟩ := k
  obtain ⟨ba, k4⟩ := k1.at
  refine ⟨es, ba, k4, k2, fun i x hx => ?_⟩
  have := (List.getElem?_eq_some_iff.mp hx).1
  exact ⟨es[i], List.getElem?_eq_getElem (by omega), k3 i _ x (List.getElem?_eq_getElem (by omega)) hx⟩
/-- a line's points, as bits -/
def zs_mk (q : zs_N) : Nat := 2 ^ q.1 ||| 2 ^ q.2.1 ||| 2 ^ q.2.2.1
def ln_at (h : wq_H) (P : Nat → Prop) (a : Nat) (q : zs_N) : Prop := P a ∧ h a = some (.inr (10, [.int (nI (zs_mk q)), .int (nI q.2.2.2)]))
def ry_at (G : wq_G) (h : wq_H) (P : Nat → Prop) (a : Nat) (q : Nat → Int) : Prop := P a ∧ ∃ (sa : Nat) (f : Nat → Int32), h a = some (.inr (11, [.ref sa])) ∧ P sa ∧ h sa = some (.inl (G.2.2.1 0, 4, .inl f)) ∧ ∀ k, k < 4 → f k = iI (q k)
def rn_at (G : wq_G) (h : wq_H) (P : Nat → Prop) (a : Nat) (q : List (Nat × Nat)) : Prop := P a ∧ ∃ (la aa : Nat) (f g : Nat → Int32), h a = some (.inr (12, [.ref la, .ref aa, .int (nI q.length)])) ∧ P la ∧ P aa ∧ h la = some (.inl (G.2.2.1 0, 6, .inl f)) ∧ h aa = some (.inl (G.2.2.1 0, 6, .inl g)) ∧ ∀ k x, q[k]? = some x → f k = nI x.1 ∧ g k = nI x.2
def bk_at (G : wq_G) (h : wq_H) (P : Nat → Prop) (b L N : Nat) (B : zs_B) : Prop := P b ∧ ∃ t0 li ra ru : Nat, h b = some (.inr (5, [.int (nI N), .int (nI L), .int (nI B.1), .ref t0, .ref li, .ref ra, .ref ru])) ∧ lo_at G h P li (ln_at h P) B.2.1 ∧ lo_at G h P ra (ry_at G h P) B.2.2.1 ∧ lo_at G h P ru (rn_at G h P) B.2.2.2
theorem bk_at.frame {G : wq_G} {h h' : wq_H} {P : Nat → Prop} {b L N : Nat} {B : zs_B} (k : bk_at G h P b L N B) (hk : kon G h') (hf : ∀ b e, P b → h b = some e → h' b = some e) : bk_at G h' P b L N B := by
  obtain ⟨p, t0, li, ra, ru, k1, k2, k3, k4⟩ := k
  refine ⟨p, t0, li, ra, ru, hf _ _ p k1, k2.frame hk hf ?_, k3.frame hk hf ?_, k4.frame hk hf ?_⟩
  · rintro a q ⟨w1, w2⟩
    exact ⟨w1, hf _ _ w1 w2⟩
  · rintro a q ⟨w1, sa, f, w2, w3, w4, w5⟩
    exact ⟨w1, sa, f, hf _ _ w1 w2, w3, hf _ _ w3 w4, w5⟩
  · rintro a q ⟨w1, la, aa, f, g, w2, w3, w4, w5, w6, w7⟩
    exact ⟨w1, la, aa, f, g, hf _ _ w1 w2, w3, w4, hf _ _ w3 w5, hf _ _ w4 w6, w7⟩
/-- an act kept: what it was, and the table -/
def st_at (G : wq_G) (h : wq_H) (P : Nat → Prop) (a : Nat) (x : zs_A × zs_T) : Prop := P a ∧ ∃ (td tb : Nat) (f : Nat → Int32), h a = some (.inr (15, [.ref td, .ref tb])) ∧ P td ∧ h td = some (.inl (G.2.2.1 0, 5, .inl f)) ∧ (∀ j, j < 5 → f j = x.1 j) ∧ tz G h P tb x.2
theorem st_at.frame {G : wq_G} {h h' : wq_H} {P : Nat → Prop} {a : Nat} {x : zs_A × zs_T} (k : st_at G h P a x) (hk : kon G h') (hf : ∀ b e, P b → h b = some e → h' b = some e) : st_at G h' P a x := by
  obtain ⟨w1, td, tb, f, w2, w3, w4, w5, w6⟩ := k
  exact ⟨w1, td, tb, f, hf _ _ w1 w2, w3, hf _ _ w3 w4, w5, w6.frame hk hf⟩
def pg_at (G : wq_G) (h : wq_H) (P : Nat → Prop) (p : Nat) : Prop := P p ∧ ∃ (ce ba : Nat) (f : Nat → Int64) (g : Nat → Int32) (v2 v3 v4 : Int32) (v5 : Int64), h p = some (.inr (1, [.ref ce, .ref ba, .int v2, .int v3, .int v4, .long v5])) ∧ P ce ∧ P ba ∧ h ce = some (.inl (G.2.2.1 1, 3430, .inr (.inl f))) ∧ h ba = some (.inl (G.2.2.1 0, 33, .inl g))
theorem pg_at.frame {G : wq_G} {h h' : wq_H} {P : Nat → Prop} {a : Nat} (k : pg_at G h P a) (hf : ∀ b e, P b → h b = some e → h' b = some e) : pg_at G h' P a := by
  obtain ⟨w1, ce, ba, f, g, v2, v3, v4, v5, w2, w3, w4, w5, w6⟩ := k
  exact ⟨w1, ce, ba, f, g, v2, v3, v4, v5, hf _ _ w1 w2, w3, w4, hf _ _ w3 w5, hf _ _ w4 w6⟩
def tp_at (G : wq_G) (h : wq_H) (P : Nat → Prop) (a : Nat) (D : zs_D) : Prop := P a ∧ ∃ f : Nat → Int32, h a = some (.inl (G.2.2.1 2, 900, .inl f)) ∧ ∀ k, k < D.2.1 → f k &&& 255 = nI (D.1 k)
theorem tp_at.frame {G : wq_G} {h h' : wq_H} {P : Nat → Prop} {a : Nat} {D : zs_D} (k : tp_at G h P a D) (hf : ∀ b e, P b → h b = some e → h' b = some e) : tp_at G h' P a D := by
  obtain ⟨w1, f, w2, w3⟩ := k
  exact ⟨w1, f, hf _ _ w1 w2, w3⟩
/-- what was read -/
def kp_at (G : wq_G) (h : wq_H) (Z : Nat → Nat → Prop) (pa fu mk : Nat) (bk tb : Option Nat) (K : Option zs_K) : Prop := match K with
  | none => bk = none ∧ lo_at G h (Z 3) pa (st_at G h (Z 1)) [] ∧ lo_at G h (Z 4) fu (st_at G h (Z 1)) [] ∧ lo_at G h (Z 5) mk (tz G h (Z 1)) []
  | some K => (∃ b t, bk = some b ∧ tb = some t ∧ bk_at G h (Z 1) b K.1 K.2.1 K.2.2.1 ∧ tz G h (Z 2) t K.2.2.2.1) ∧ lo_at G h (Z 3) pa (st_at G h (Z 1)) K.2.2.2.2.1 ∧ lo_at G h (Z 4) fu (st_at G h (Z 1)) K.2.2.2.2.2.1 ∧ lo_at G h (Z 5) mk (tz G h (Z 1)) K.2.2.2.2.2.2
theorem kp_at.frame {G : wq_G} {h h' : wq_H} {Z : Nat → Nat → Prop} {pa fu mk : Nat} {bk tb : Option Nat} {K : Option zs_K} (k : kp_at G h Z pa fu mk bk tb K) (hk : kon G h') (hf : ∀ i b e, 1 ≤ i → i ≤ 5 → Z i b → h b = some e → h' b = some e) : kp_at G h' Z pa fu mk bk tb K := by
  have f1 := fun b e => hf 1 b e (by omega) (by omega)
  have f2 := fun b e => hf 2 b e (by omega) (by omega)
  have f3 := fun b e => hf 3 b e (by omega) (by omega)
  have f4 := fun b e => hf 4 b e (by omega) (by omega)
  have f5 := fun b e => hf 5 b e (by omega) (by omega)
  cases K with
  | none => exact ⟨k.1, k.2.1.frame hk f3 fun p x q => q.frame hk f1, k.2.2.1.frame hk f4 fun p x q => q.frame hk f1, k.2.2.2.frame hk f5 fun p x q => q.frame hk f1⟩
  | some K =>
    obtain ⟨⟨b, t, k1, k2, k3, k4⟩, k5, k6, k7⟩ := k
    exact ⟨⟨b, t, k1, k2, k3.frame hk f1, k4.frame hk f2⟩, k5.frame hk f3 fun p x q => q.frame hk f1, k6.frame hk f4 fun p x q => q.frame hk f1, k7.frame hk f5 fun p x q => q.frame hk f1⟩
/-- the object's fields -/
abbrev cf_l (D : zs_D) (tp pr pa fu mk : Nat) (bk tb : Option Nat) : List Value := [.ref tp, .int (nI D.2.1), .int D.2.2.1, .int (dk_where D), .int D.2.2.2.2.1, va_rf bk, va_rf tb, .ref pr, .ref pa, .ref fu, .ref mk]
def cdx (G : wq_G) (h : wq_H) (Z : Nat → Nat → Prop) (x tp pr pa fu mk : Nat) (bk tb : Option Nat) (D : zs_D) : Prop := cz G h Z ∧ kon G h ∧ Z 8 x ∧ h x = some (.inr (0, cf_l D tp pr pa fu mk bk tb)) ∧ tp_at G h (Z 7) tp D ∧ pg_at G h (Z 6) pr ∧ kp_at G h Z pa fu mk bk tb D.2.2.2.2.2
/-- THE DESK -/
def cd (G : wq_G) (h : wq_H) (Z : Nat → Nat → Prop) (x : Nat) (D : zs_D) : Prop := ∃ (tp pr pa fu mk : Nat) (bk tb : Option Nat), cdx G h Z x tp pr pa fu mk bk tb D
/-- what a call leaves: its answer, the desk, nothing else changed -/
def pk (G : wq_G) (Z : Nat → Nat → Prop) (x : Nat) (h : wq_H) (D' : zs_D) (v : Int32) : Int32 → wq_H → Prop := fun r h' => r = v ∧ ∃ Z', cd G h' Z' x D' ∧ hx (own Z) h h' ∧ ∀ a, own Z' a → own Z a ∨ nw G h a
/-- the object's numbers changed, no more -/
theorem cdx.x {G : wq_G} {h : wq_H} {Z : Nat → Nat → Prop} {x tp pr pa fu mk : Nat} {bk tb : Option Nat} {D D' : zs_D} (k : cdx G h Z x tp pr pa fu mk bk tb D) (e1 : D'.1 = D.1) (e2 : D'.2.1 = D.2.1) (e3 : D'.2.2.2.2.2 = D.2.2.2.2.2) : cdx G (wq_set h x (.inr (0, cf_l D' tp pr pa fu mk bk tb))) Z x tp pr pa fu mk bk tb D' := by
  obtain ⟨k1, k2, k3, k4, k5, k6, k7⟩ := k
  have q : hx (Z 8) h (wq_set h x (.inr (0, cf_l D' tp pr pa fu mk bk tb))) := hx.set (Or.inl k3)
  have hf : ∀ i b e, i ≠ 8 → Z i b → h b = some e → (wq_set h x (.inr (0, cf_l D' tp pr pa fu mk bk tb))) b = some e := fun i b e hi hb he => q.1 b e (fun z => hi (k1.2 i 8 b hb z)) he
  have hk := k2.hx q fun b hb => (k1.1 8 b hb).1
  refine ⟨k1.hx q, hk, k3, wq_set_eq, ?_, k6.frame fun b e => hf 6 b e (by omega), ?_⟩
  · obtain ⟨w1, f, w2, w3⟩ := k5
    exact ⟨w1, f, hf 7 _ _ (by omega) w1 w2, fun k hk => by rw [e1]; exact w3 k (by rw [← e2]; exact hk)⟩
  · rw [e3]
    exact k7.frame hk fun i b e h1 h2 => hf i b e (by omega)
section CP8
variable {G : wq_G} {l : Launch} {d C S : Nat} {h : wq_H} {Z : Nat → Nat → Prop} {x : Nat} {D : zs_D}
theorem c_well (k : cd G h Z x D) (v : Int32) : wq_C G l 0 0 0 mX1_well [.ref x, .int v] h (wq_qi fun r h' => r = v ∧ cd G h' Z x (dk_t D 0) ∧ hx (own Z) h h') := by
  obtain ⟨tp, pr, pa, fu, mk, bk, tb, k⟩ := k
  have hz := (k.1.1 8 x k.2.2.1).1
  have kx := k.2.2.2.1
  refine wq_C.of pn_X1 (Nat.le_of_ble_eq_true rfl) rfl (vX1_well_0 (pf1 kx hz (by simp) (pf1 wq_set_eq hz (by simp) ?_)))
  rw [wq_set_set]
  have := k.x (D' := dk_t D 0) rfl rfl rfl
  exact ⟨rfl, ⟨tp, pr, pa, fu, mk, bk, tb, this⟩, hx.set (Or.inl ⟨8, k.2.2.1⟩)⟩
theorem c_refused (k : cd G h Z x D) {v : Int32} (hv : v ≠ 4) : wq_C G l 0 0 0 mX1_refused [.ref x, .int v] h (wq_qi fun r h' => r = -1 ∧ cd G h' Z x (dk_t D v) ∧ hx (own Z) h h') := by
  obtain ⟨tp, pr, pa, fu, mk, bk, tb, k⟩ := k
  have hz := (k.1.1 8 x k.2.2.1).1
  have kx := k.2.2.2.1
  refine wq_C.of pn_X1 (Nat.le_of_ble_eq_true rfl) rfl (vX1_refused_0 (pf1 kx hz (by simp) (pf1 wq_set_eq hz (by simp) ?_)))
  rw [wq_set_set]
  have := k.x (D' := dk_t D v) rfl rfl rfl
  have e : dk_where (dk_t D v) = -1 := if_neg hv
  unfold cf_l at this
  rw [e] at this
  exact ⟨rfl, ⟨tp, pr, pa, fu, mk, bk, tb, this⟩, hx.set (Or.inl ⟨8, k.2.2.1⟩)⟩
theorem u_well (k : cd G h Z x D) (hd : 0 < d) {v : Int32} {F : Int32 → wq_H → Nat → Nat → Prop} (q : ∀ h', cd G h' Z x (dk_t D 0) → hx (own Z) h h' → F v h' C S) : ∃ fs : List Value, h x = some (.inr (0, fs)) ∧ wq_ci G l d C S mX1_well [.ref x, .int v] h F := by
  obtain ⟨tp, pr, pa, fu, mk, bk, tb, kx⟩ := id k
  refine ⟨_, kx.2.2.2.1, wq_ci.use hd (Nat.zero_le _) (Nat.zero_le _) (c_well k v) ?_⟩
  rintro r h' ⟨rfl, q1, q2⟩
  exact q h' q1 q2
theorem u_refused (k : cd G h Z x D) (hd : 0 < d) {v : Int32} (hv : v ≠ 4) {F : Int32 → wq_H → Nat → Nat → Prop} (q : ∀ h', cd G h' Z x (dk_t D v) → hx (own Z) h h' → F (-1) h' C S) : ∃ fs : List Value, h x = some (.inr (0, fs)) ∧ wq_ci G l d C S mX1_refused [.ref x, .int v] h F := by
  obtain ⟨tp, pr, pa, fu, mk, bk, tb, kx⟩ := id k
  refine ⟨_, kx.2.2.2.1, wq_ci.use hd (Nat.zero_le _) (Nat.zero_le _) (c_refused k hv) ?_⟩
  rintro r h' ⟨rfl, q1, q2⟩
  exact q h' q1 q2
theorem pk_of {D' : zs_D} {v : Int32} {h' : wq_H} (q1 : cd G h' Z x D') (q2 : hx (own Z) h h') : pk G Z x h D' v v h' := ⟨rfl, Z, q1, q2, fun _ z => Or.inl z⟩
/-- the desk with nothing read; with a book and a table -/
theorem cd.n (k : cd G h Z x D) (e : D.2.2.2.2.2 = none) {F : Option Nat → Prop} (q : F none) : wq_gQ h x [(0, 5)] F := by
  obtain ⟨tp, pr, pa, fu, mk, bk, tb, k⟩ := k
  have k7 := k.2.2.2.2.2.2
  rw [e] at k7
  obtain ⟨k7, -⟩ := k7
  refine gQ1 k.2.2.2.1 (x := none) ?_ q
  rw [k7]; rfl
/-- what a call sees of the desk -/
def dv (G : wq_G) (h : wq_H) (x b t li ba : Nat) (sa ta ca : Nat → Nat) (K : zs_K) : Prop := (∃ fs : List Value, h x = some (.inr (0, fs)) ∧ fs[5]? = some (.ref b) ∧ fs[6]? = some (.ref t)) ∧ (∃ v3 v4 v5 v6 : Value, h b = some (.inr (5, [.int (nI K.2.1), .int (nI K.1), .int (nI K.2.2.1.1), v3, v4, v5, v6]))) ∧ tb_at G h t li ba sa ta ca K.2.2.2.1
theorem cd.k (k : cd G h Z x D) {K : zs_K} (e : D.2.2.2.2.2 = some K) : ∃ b t li ba sa ta ca, dv G h x b t li ba sa ta ca K := by
  obtain ⟨tp, pr, pa, fu, mk, bk, tb, k⟩ := k
  have k7 := k.2.2.2.2.2.2
  rw [e] at k7
  obtain ⟨⟨b, t, rfl, rfl, k8, k9⟩, -⟩ := k7
  obtain ⟨li, ba, sa, ta, ca, k9⟩ := k9.at
  obtain ⟨-, t0, l0, r0, u0, k8, -⟩ := k8
  exact ⟨b, t, li, ba, sa, ta, ca, ⟨_, k.2.2.2.1, rfl, rfl⟩, ⟨_, _, _, _, k8⟩, k9⟩
section DV
variable {b t li ba : Nat} {sa ta ca : Nat → Nat} {K : zs_K}
theorem dv.book (V : dv G h x b t li ba sa ta ca K) {F : Option Nat → Prop} (q : F (some b)) : wq_gQ h x [(0, 5)] F := by
  obtain ⟨fs, h1, h2, h3⟩ := V.1
  exact gQ1 h1 (x := some b) h2 q
theorem dv.tab (V : dv G h x b t li ba sa ta ca K) {F : Nat → Prop} (q : F t) : wq_gR h x [(0, 6)] F := by
  obtain ⟨fs, h1, h2, h3⟩ := V.1
  exact gR1 h1 h3 q
theorem dv.me (V : dv G h x b t li ba sa ta ca K) {Q : Prop} (q : Q) : ∃ fs : List Value, h x = some (.inr (0, fs)) ∧ Q := by
  obtain ⟨fs, h1, h2, h3⟩ := V.1
  exact ⟨fs, h1, q⟩
theorem dv.of (V : dv G h x b t li ba sa ta ca K) {F : Int32 → Prop} (q : F (nI K.2.1)) : wq_gI h b [(5, 0)] F := by
  obtain ⟨v3, v4, v5, v6, h1⟩ := V.2.1
  exact gI1 h1 rfl q
theorem dv.looks (V : dv G h x b t li ba sa ta ca K) {F : Int32 → Prop} (q : F (nI K.1)) : wq_gI h b [(5, 1)] F := by
  obtain ⟨v3, v4, v5, v6, h1⟩ := V.2.1
  exact gI1 h1 rfl q
theorem dv.points (V : dv G h x b t li ba sa ta ca K) {F : Int32 → Prop} (q : F (nI K.2.2.1.1)) : wq_gI h b [(5, 2)] F := by
  obtain ⟨v3, v4, v5, v6, h1⟩ := V.2.1
  exact gI1 h1 rfl q
theorem pn_X6 : plainName RX6 = true := by decide +kernel
theorem dv.hid (V : dv G h x b t li ba sa ta ca K) (hL : K.1 ≤ 6) (hd : 0 < d) {F : Int32 → wq_H → Nat → Nat → Prop} (q : F (nI (2 ^ K.1)) h C S) : ∃ fs : List Value, h b = some (.inr (5, fs)) ∧ wq_ci G l d C S mX6_hiddens [.ref b] h F := by
  obtain ⟨v3, v4, v5, v6, h1⟩ := V.2.1
  refine ⟨_, h1, wq_ci.eq hd (wq_C.of pn_X6 (Nat.le_of_ble_eq_true rfl) rfl (vX6_hiddens_0 (gI1 h1 rfl ⟨?_, rfl⟩))) q⟩
  rw [nI_shl (by omega)]
end DV
theorem some_k {b : Nat} {A : Prop} {B : Nat → Prop} (q : B b) : (some b = none → A) ∧ ∀ a, some b = some a → B a := ⟨fun z => (by cases z), fun a z => by cases z; exact q⟩
theorem none_k {A : Prop} {B : Nat → Prop} (q : A) : ((none : Option Nat) = none → A) ∧ ∀ a, (none : Option Nat) = some a → B a := ⟨fun _ => q, fun a z => by cases z⟩
/-- what holds of a desk with a book -/
theorem kok.all {K : zs_K} (k : kok K) : zs_ok K.1 K.2.1 K.2.2.2.1 ∧ K.1 ≤ 6 ∧ 1 ≤ K.1 ∧ K.2.1 ≤ 60 ∧ 1 ≤ K.2.1 := ⟨k.1, k.2.2.1.2, k.2.2.1.1, k.2.2.2.1.2, k.2.2.2.1.1⟩
def kT (D : zs_D) : Int32 := match D.2.2.2.2.2 with
  | none => 1
  | some _ => 0
theorem kT_n (e : D.2.2.2.2.2 = none) : kT D = 1 := by rw [kT, e]
theorem kT_k {K : zs_K} (e : D.2.2.2.2.2 = some K) : kT D = 0 := by rw [kT, e]
theorem c_isLook (k : cd G h Z x D) (dk : dok D) (v : Int32) : wq_C G l 1 0 0 mX1_isLook [.ref x, .int v] h (wq_qi fun r h' => r = b2i (match D.2.2.2.2.2 with
    | none => false
    | some K => inB v K.1) ∧ h' = h) := by
  cases e : D.2.2.2.2.2 with
  | none => exact wq_C.of pn_X1 (Nat.le_of_ble_eq_true rfl) rfl (vX1_isLook_0 (k.n e (none_k ⟨rfl, rfl⟩)))
  | some K =>
    obtain ⟨b, t, li, ba, sa, ta, ca, V⟩ := k.k e
    have o := (dk.2.2 K e).all
    refine wq_C.of pn_X1 (Nat.le_of_ble_eq_true rfl) rfl (vX1_isLook_0 (V.book (some_k (V.book ⟨b, rfl, V.looks (wq_ci.eq (by decide) (c_inB v (by omega)) ⟨fun c => ⟨?_, rfl⟩, fun c => ⟨?_, rfl⟩⟩)⟩))))
    · rw [b2i_0] at c; simp [c, b2i]
    · rw [b2i_0, Bool.not_eq_false] at c; simp [c, b2i]
theorem c_isSet (k : cd G h Z x D) (dk : dok D) (v : Int32) : wq_C G l 2 0 0 mX1_isSet [.ref x, .int v] h (wq_qi fun r h' => r = b2i (match D.2.2.2.2.2 with
    | none => false
    | some K => inB v K.2.2.2.1.length) ∧ h' = h) := by
  cases e : D.2.2.2.2.2 with
  | none => exact wq_C.of pn_X1 (Nat.le_of_ble_eq_true rfl) rfl (vX1_isSet_0 (k.n e (none_k ⟨rfl, rfl⟩)))
  | some K =>
    obtain ⟨b, t, li, ba, sa, ta, ca, V⟩ := k.k e
    have h8 := (dk.2.2 K e).all.1.1
    refine wq_C.of pn_X1 (Nat.le_of_ble_eq_true rfl) rfl (vX1_isSet_0 (V.book (some_k (V.tab (u_size V.2.2 (by decide) (wq_ci.eq (by decide) (c_inB v (by omega)) ⟨fun c => ⟨?_, rfl⟩, fun c => ⟨?_, rfl⟩⟩))))))
    · rw [b2i_0] at c; simp [c, b2i]
    · rw [b2i_0, Bool.not_eq_false] at c; simp [c, b2i]
theorem c_isOut (k : cd G h Z x D) (dk : dok D) (v w : Int32) : wq_C G l 5 0 0 mX1_isOutcome [.ref x, .int v, .int w] h (wq_qi fun r h' => r = b2i (match D.2.2.2.2.2 with
    | none => false
    | some K => zs_isO K.2.2.2.1 v w) ∧ h' = h) := by
  cases e : D.2.2.2.2.2 with
  | none => exact wq_C.of pn_X1 (Nat.le_of_ble_eq_true rfl) rfl (vX1_isOutcome_0 (k.n e (none_k ⟨rfl, rfl⟩)))
  | some K =>
    obtain ⟨b, t, li, ba, sa, ta, ca, V⟩ := k.k e
    have h8 := (dk.2.2 K e).all.1.1
    refine wq_C.of pn_X1 (Nat.le_of_ble_eq_true rfl) rfl (vX1_isOutcome_0 (V.book (some_k (V.tab ⟨_, V.2.2.1, wq_ci.eq (by decide) (c_isOutcome V.2.2 h8 v w) ⟨fun c => ⟨?_, rfl⟩, fun c => ⟨?_, rfl⟩⟩⟩))))
    · rw [b2i_0] at c; simp [c, b2i]
    · rw [b2i_0, Bool.not_eq_false] at c; simp [c, b2i]
theorem c_extended (k : cd G h Z x D) (dk : dok D) {K : zs_K} (e : D.2.2.2.2.2 = some K) {i o : Nat} (hi : i < K.2.2.2.1.length) (ho : o < 4) : wq_C G l 6 0 0 mX1_extended [.ref x, .int (nI i), .int (nI o)] h (wq_qi fun r h' => r = b2i (zs_ext K.1 K.2.2.2.1 i o) ∧ h' = h) := by
  obtain ⟨b, t, li, ba, sa, ta, ca, V⟩ := k.k e
  have q := (dk.2.2 K e).all
  exact wq_C.of pn_X1 (Nat.le_of_ble_eq_true rfl) rfl (vX1_extended_0 (V.tab (V.book ⟨b, rfl, V.hid q.2.1 (by decide) ⟨_, V.2.2.1, wq_ci.eq (by decide) (c_extend V.2.2 q.1 q.2.1 q.2.2.2.1 hi ho) ⟨(tw_z (b2i_z _)).1, rfl, rfl⟩⟩⟩)))
/-- asked of a table: its answers, by what is read -/
def qK (D : zs_D) (n : Int32) (f : zs_K → Int32) : Int32 := match D.2.2.2.2.2 with
  | none => n
  | some K => f K
theorem qK_n {n : Int32} {f : zs_K → Int32} (e : D.2.2.2.2.2 = none) : qK D n f = n := by rw [qK, e]
theorem qK_k {K : zs_K} {n : Int32} {f : zs_K → Int32} (e : D.2.2.2.2.2 = some K) : qK D n f = f K := by rw [qK, e]
theorem c_wins (k : cd G h Z x D) (dk : dok D) : wq_C G l 5 0 0 mX1_wins [.ref x] h (wq_qi (pk G Z x h (dk_t D (kT D)) (qK D (-1) fun K => nI (zs_wins K.2.2.2.1)))) := by
  cases e : D.2.2.2.2.2 with
  | none =>
    rw [kT_n e, qK_n e]
    exact wq_C.of pn_X1 (Nat.le_of_ble_eq_true rfl) rfl (vX1_wins_0 (k.n e (none_k (u_refused k (by decide) (by decide) fun h' => pk_of))))
  | some K =>
    rw [kT_k e, qK_k e]
    obtain ⟨b, t, li, ba, sa, ta, ca, V⟩ := k.k e
    exact wq_C.of pn_X1 (Nat.le_of_ble_eq_true rfl) rfl (vX1_wins_0 (V.book (some_k (V.tab ⟨_, V.2.2.1, wq_ci.eq (by decide) (c_twins V.2.2) (u_well k (by decide) fun h' => pk_of)⟩))))
theorem c_leastPays (k : cd G h Z x D) (dk : dok D) {K : zs_K} (e : D.2.2.2.2.2 = some K) : wq_C G l 5 0 0 mX1_leastPays [.ref x] h (wq_qi fun r h' => r = nI (zs_least K.1 K.2.2.2.1) ∧ h' = h) := by
  obtain ⟨b, t, li, ba, sa, ta, ca, V⟩ := k.k e
  have q := (dk.2.2 K e).all
  have hp := pow_64 q.2.1
  have h1 : 1 ≤ 2 ^ K.1 := Nat.one_le_two_pow
  refine wq_C.of pn_X1 (Nat.le_of_ble_eq_true rfl) rfl (vX1_leastPays_0 ?_)
  have lt : ∀ n, fo (fun k b => if zs_pays K.2.2.2.1 (k + 1) < zs_pays K.2.2.2.1 b then k + 1 else b) n 0 ≤ n := by
    intro n
    induction n with
    | zero => exact Nat.le_refl _
    | succ n ih =>
      show (if _ < _ then n + 1 else _) ≤ n + 1
      split <;> omega
  have pl : ∀ hh, zs_pays K.2.2.2.1 hh < 2 ^ 31 := fun hh => by have := zs_pays_le q.1 hh; omega
  refine down (P := fun i => wq_T G l 5 mX1_leastPays (wq_qi fun r h' => r = nI (zs_least K.1 K.2.2.2.1) ∧ h' = h) 4 [some (.ref x), some (.int (nI (fo (fun k b => if zs_pays K.2.2.2.1 (k + 1) < zs_pays K.2.2.2.1 b then k + 1 else b) i 0))), some (.int (nI (i + 1)))] [] h 0 0) (n := 2 ^ K.1 - 1) ?_ ?_
  · refine vX1_leastPays_4 (V.book ⟨b, rfl, V.hid q.2.1 (by decide) ⟨fun _ => ⟨rfl, rfl⟩, fun c => ?_⟩⟩)
    rw [show 2 ^ K.1 - 1 + 1 = 2 ^ K.1 by omega] at c
    exact absurd (Int32.le_refl _) c
  · intro i hi ih
    have l1 := lt i
    refine vX1_leastPays_4 (V.book ⟨b, rfl, V.hid q.2.1 (by decide) ⟨fun c => ?_, fun _ => V.tab ⟨_, V.2.2.1, wq_ci.eq (by decide) (c_pays V.2.2 q.1 q.2.1 (by omega)) (V.tab ⟨_, V.2.2.1, wq_ci.eq (by decide) (c_pays V.2.2 q.1 q.2.1 (by omega)) ⟨fun c => ?_, fun c => ?_⟩⟩)⟩⟩⟩)
    · rw [nI_leI (by omega) (by omega)] at c
      omega
    · rw [nI_leI (pl _) (pl _)] at c
      rw [nI_1]
      have : fo (fun k b => if zs_pays K.2.2.2.1 (k + 1) < zs_pays K.2.2.2.1 b then k + 1 else b) (i + 1) 0 = fo (fun k b => if zs_pays K.2.2.2.1 (k + 1) < zs_pays K.2.2.2.1 b then k + 1 else b) i 0 := if_neg (by omega)
      rw [this] at ih
      exact ih
    · rw [nI_leI (pl _) (pl _)] at c
      rw [nI_1]
      have : fo (fun k b => if zs_pays K.2.2.2.1 (k + 1) < zs_pays K.2.2.2.1 b then k + 1 else b) (i + 1) 0 = i + 1 := if_pos (by omega)
      rw [this] at ih
      exact ih
end CP8
