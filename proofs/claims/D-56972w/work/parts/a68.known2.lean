/-! THE START: the arrays' classes; a constant object -/
set_option maxRecDepth 100000
theorem zK_prim {args : Array Value} {s : State} {ty : FieldType} (h : (Cond.arrayClass ty).before args s = true) : ∃ c : ClassId, ArrOfT s c ty ∧ s.vm.findClass ("[" ++ ty.toString) = some c := by
  obtain ⟨c, k, comp, h1, h2, h3⟩ := Cond.arrayClass_spec h
  exact ⟨c, fun n z => ⟨(fun k h => by cases h), k, h2, comp, h3⟩, h1⟩
theorem zK_over {args : Array Value} {s : State} {C : String} (h : (Cond.arrayOver (.object C)).before args s = true) : ∃ c : ClassId, ArrOfT s c (.object C) ∧ va_RA s c (.object C) := by
  obtain ⟨comp, c, k, h1, -, h3, h4, h5⟩ := Cond.arrayOver_spec h
  exact ⟨c, fun n z => ⟨(fun k h => by cases h), k, h3, comp, h4⟩, k, comp, h3, h4, h1, h5⟩
theorem zK_tys {args : Array Value} {s : State} (hts : ∀ w ∈ lw_tbl, w.before args s = true) (cI cS : ClassId) : ∃ dA : Nat → ClassId, dA 7 = cI ∧ dA 8 = cS ∧ ∀ (k : Nat) (ty : FieldType), zkinds[k]? = some ty → ArrOfT s (dA k) ty ∧ va_RA s (dA k) ty := by
  obtain ⟨c0, h0, r0⟩ := zK_prim (hts _ (lw_all_tbl q398))
  obtain ⟨c1, h1⟩ := zK_over (hts _ q465)
  obtain ⟨c2, h2, r2⟩ := zK_prim (hts _ (lw_all_tbl q342))
  obtain ⟨c3, h3, r3⟩ := zK_prim (hts _ (lw_all_tbl q1494))
  obtain ⟨c4, h4, r4⟩ := zK_prim (hts _ (lw_all_tbl q1970))
  obtain ⟨c5, h5, r5⟩ := zK_prim (hts _ (lw_all_tbl q1971))
  obtain ⟨c6, h6⟩ := zK_over (hts _ q128)
  refine ⟨fun k => [c0, c1, c2, c3, c4, c5, c6, cI, cS].getD k 0, rfl, rfl, fun k ty hk => ?_⟩
  match k, hk with
  | 0, hk => cases hk; exact ⟨h0, r0⟩
  | 1, hk => cases hk; exact h1
  | 2, hk => cases hk; exact ⟨h2, r2⟩
  | 3, hk => cases hk; exact ⟨h3, r3⟩
  | 4, hk => cases hk; exact ⟨h4, r4⟩
  | 5, hk => cases hk; exact ⟨h5, r5⟩
  | 6, hk => cases hk; exact h6
  | k + 7, hk => simp [zkinds] at hk
/-- a constant object: where it lies, its class -/
theorem zK_const {args : Array Value} {s : State} {C n d E : String} (hex : (Cond.exactly (.static C n d) E).before args s = true) (hl : (Cond.laysStatic C n d).before args s = true) (hini : (Cond.initialized C).before args s = true) :
    ∃ a : Nat, a < s.heap.size ∧ (Term.static C n d).eval args s none [] s = some (.ref a) ∧ va_Z C n d (.ref a) (fun q => s.heap.size ≤ q) s s.heap ∧ va_O E a (fun q => s.heap.size ≤ q) s s.heap := by
  have hA : ∀ a : Nat, a < s.heap.size → ¬ (fun q => s.heap.size ≤ q) a := fun a h1 h2 => Nat.not_le.mpr h1 h2
  obtain ⟨a2, c, cA, kA, q1, q2, q3, q4, q5, q6, -⟩ := Cond.exactly_spec (args := args) (first := s) (o := none) (s := s) (idx := []) hex
  exact ⟨a2, (Array.getElem?_eq_some_iff.mp q3).1, q1, va_Zof hl hini q1 hA, va_Oof hex q1 hA⟩
