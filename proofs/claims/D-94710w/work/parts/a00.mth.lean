/-! Math's abs, max, min of ints, by the library's own contracts -/
set_option maxRecDepth 100000
section MTH
variable {G : wq_G} {l : Launch} {h : wq_H}
theorem wq_C.math {M : wq_M} {S : Spec} {args : List Value} {Q : Option Value → wq_H → Prop} (hS : MeetsLoose l M.1 S) (hroom : S.room = { frames := 0, cells := 0, slots := 0, locals := 0 }) (hen : ∀ s o t, S.ensures args.toArray s o t → S.post.after args.toArray s o t = true ∧ s.sameBut t []) (hpre : ∀ s : State, (Cond.code M.1 M.2.1 M.2.2.1 M.2.2.2).before args.toArray s = true → S.pre.before args.toArray s = true) (hpost : ∀ s o t, S.post.after args.toArray s o t = true → ∃ r, o = .returned r ∧ Q r h) : wq_C G l 0 0 0 M args h Q := by
  intro p e ha hc hk s m a below hf happ hP _
  obtain ⟨rfl, hE, hR⟩ := hP
  obtain ⟨a1, a2, a3, a4, a5, a6, a7, a8⟩ := (Spec.appliesLoose_iff hf).mp happ
  have hts := atoms_spec (ws := ws_ M.1 M.2.1 M.2.2.1 M.2.2.2) a8
  obtain ⟨n, o, b1, b2, b3, b4⟩ := hS p e ha hc hk s m _ below hf ((Spec.appliesLoose_iff hf).mpr ⟨a1, a2, a3, a4, a5, a6, by rw [hroom]; exact a7, hpre s (hts _ List.mem_cons_self)⟩)
  obtain ⟨c1, c2⟩ := hen s o _ b4
  obtain ⟨r, rfl, hq⟩ := hpost s o _ c1
  have c3 := State.sameBut_nil.mp c2
  have hh : (stepsAlone p.tables e n s).heap = s.heap := by rw [c3]; rfl
  have hv : (stepsAlone p.tables e n s).vm = s.vm := by rw [c3]; rfl
  refine ⟨n, _, b1, b2, b3, ⟨⟨r, h, rfl, hq, by rw [hh]; exact hR⟩, by rw [hh]; exact Nat.le_refl _, fun q _ _ => by rw [hh]⟩, [], ⟨⟨r, rfl⟩, by rw [hv]; exact State.WarmedH.refl s, ?_⟩, fun q hq => absurd hq List.not_mem_nil⟩
  have e1 : ({ stepsAlone p.tables e n s with vm := s.vm } : State) = stepsAlone p.tables e n s := by rw [← hv]
  rw [e1]
  exact c2.sameButNew 0 0
theorem abs_post {a : Int32} {s : State} {o : Outcome} {t : State} (h : Lib.MathLoose.abs_int.spec.post.after #[.int a] s o t = true) : o = .returned (some (.int (if 0 ≤ a then a else -a))) := by
  by_cases h1 : 0 ≤ a
  · cases o with
    | threw y => simp [Lib.MathLoose.abs_int.spec, Cond.after, Cond.holds, Cond.value, Term.eval, h1] at h
    | returned v =>
      rcases v with _ | w
      · simp [Lib.MathLoose.abs_int.spec, Cond.after, Cond.holds, Cond.value, Term.eval, h1] at h
      · cases w <;> simp [Lib.MathLoose.abs_int.spec, Cond.after, Cond.holds, Cond.value, Term.eval, h1] at h
        rename_i r
        by_cases hr : r = a
        · rw [if_pos h1, hr]
        · simp [hr] at h
  · cases o with
    | threw y => simp [Lib.MathLoose.abs_int.spec, Cond.after, Cond.holds, Cond.value, Term.eval, h1] at h
    | returned v =>
      rcases v with _ | w
      · simp [Lib.MathLoose.abs_int.spec, Cond.after, Cond.holds, Cond.value, Term.eval, h1] at h
      · cases w <;> simp [Lib.MathLoose.abs_int.spec, Cond.after, Cond.holds, Cond.value, Term.eval, h1] at h
        rename_i r
        by_cases hr : r = -a
        · rw [if_neg h1, hr]
        · simp [hr] at h
theorem max_post {a b : Int32} {s : State} {o : Outcome} {t : State} (h : Lib.MathLoose.max_int.spec.post.after #[.int a, .int b] s o t = true) : o = .returned (some (.int (if a < b then b else a))) := by
  by_cases h1 : a < b
  · cases o with
    | threw y => simp [Lib.MathLoose.max_int.spec, Cond.after, Cond.holds, Cond.value, Term.eval, h1] at h
    | returned v =>
      rcases v with _ | w
      · simp [Lib.MathLoose.max_int.spec, Cond.after, Cond.holds, Cond.value, Term.eval, h1] at h
      · cases w <;> simp [Lib.MathLoose.max_int.spec, Cond.after, Cond.holds, Cond.value, Term.eval, h1] at h
        rename_i r
        by_cases hr : r = b
        · rw [if_pos h1, hr]
        · simp [hr] at h
  · cases o with
    | threw y => simp [Lib.MathLoose.max_int.spec, Cond.after, Cond.holds, Cond.value, Term.eval, h1] at h
    | returned v =>
      rcases v with _ | w
      · simp [Lib.MathLoose.max_int.spec, Cond.after, Cond.holds, Cond.value, Term.eval, h1] at h
      · cases w <;> simp [Lib.MathLoose.max_int.spec, Cond.after, Cond.holds, Cond.value, Term.eval, h1] at h
        rename_i r
        by_cases hr : r = a
        · rw [if_neg h1, hr]
        · simp [hr] at h
theorem min_post {a b : Int32} {s : State} {o : Outcome} {t : State} (h : Lib.MathLoose.min_int.spec.post.after #[.int a, .int b] s o t = true) : o = .returned (some (.int (if b < a then b else a))) := by
  by_cases h1 : b < a
  · cases o with
    | threw y => simp [Lib.MathLoose.min_int.spec, Cond.after, Cond.holds, Cond.value, Term.eval, h1] at h
    | returned v =>
      rcases v with _ | w
      · simp [Lib.MathLoose.min_int.spec, Cond.after, Cond.holds, Cond.value, Term.eval, h1] at h
      · cases w <;> simp [Lib.MathLoose.min_int.spec, Cond.after, Cond.holds, Cond.value, Term.eval, h1] at h
        rename_i r
        by_cases hr : r = b
        · rw [if_pos h1, hr]
        · simp [hr] at h
  · cases o with
    | threw y => simp [Lib.MathLoose.min_int.spec, Cond.after, Cond.holds, Cond.value, Term.eval, h1] at h
    | returned v =>
      rcases v with _ | w
      · simp [Lib.MathLoose.min_int.spec, Cond.after, Cond.holds, Cond.value, Term.eval, h1] at h
      · cases w <;> simp [Lib.MathLoose.min_int.spec, Cond.after, Cond.holds, Cond.value, Term.eval, h1] at h
        rename_i r
        by_cases hr : r = a
        · rw [if_neg h1, hr]
        · simp [hr] at h
theorem m_abs (a : Int32) : wq_C G l 0 0 0 mJ8_abs [.int a] h (wq_qi fun r h' => r = (if 0 ≤ a then a else -a) ∧ h' = h) := by
  refine wq_C.math (S := Lib.MathLoose.abs_int.spec) (Lib.MathLoose.abs_int l) rfl (fun s o t h => h) (fun s hc => ?_) (fun s o t h => ⟨_, abs_post h, _, rfl, rfl, rfl⟩)
  simp only [Lib.MathLoose.abs_int.spec, Cond.before_and, Bool.and_eq_true]
  exact ⟨hc, rfl, rfl⟩
theorem m_max (a b : Int32) : wq_C G l 0 0 0 mJ8_max [.int a, .int b] h (wq_qi fun r h' => r = (if a < b then b else a) ∧ h' = h) := by
  refine wq_C.math (S := Lib.MathLoose.max_int.spec) (Lib.MathLoose.max_int l) rfl (fun s o t h => h) (fun s hc => ?_) (fun s o t h => ⟨_, max_post h, _, rfl, rfl, rfl⟩)
  simp only [Lib.MathLoose.max_int.spec, Cond.before_and, Bool.and_eq_true]
  exact ⟨hc, rfl, rfl, rfl⟩
theorem m_min (a b : Int32) : wq_C G l 0 0 0 mJ8_min [.int a, .int b] h (wq_qi fun r h' => r = (if b < a then b else a) ∧ h' = h) := by
  refine wq_C.math (S := Lib.MathLoose.min_int.spec) (Lib.MathLoose.min_int l) rfl (fun s o t h => h) (fun s hc => ?_) (fun s o t h => ⟨_, min_post h, _, rfl, rfl, rfl⟩)
  simp only [Lib.MathLoose.min_int.spec, Cond.before_and, Bool.and_eq_true]
  exact ⟨hc, rfl, rfl, rfl⟩
theorem m_eq {M : wq_M} {args : List Value} {v v' : Int32} (c : wq_C G l 0 0 0 M args h (wq_qi fun r h' => r = v ∧ h' = h)) (e : v = v') : wq_C G l 0 0 0 M args h (wq_qi fun r h' => r = v' ∧ h' = h) := e ▸ c
end MTH
