/-! Throwable.<init>(String, Throwable) on a fresh Lack, no traces kept -/
set_option maxRecDepth 100000
abbrev zkL : String := "Foundrymark$Lack"
abbrev zkTh : MethodName := ⟨"java/lang/Throwable", "<init>", "(Ljava/lang/String;Ljava/lang/Throwable;)V"⟩
/-- a fresh Lack at a -/
def zkB (g : zG) (a : Nat) (U : State) : Prop := zT g U ∧ zg_n g ≤ a ∧ ∃ (cell : Cell) (kX : Class), U.heap[a]? = some cell ∧ cell.vm = .none ∧ cell.monitor = {} ∧ U.vm.findClass zkL = some cell.cls ∧ U.vm.classes[cell.cls]? = some kX ∧ kX.kind = .ordinary ∧ cell.slots.size = kX.instanceTypes.size ∧
  ∀ (c : ClassId) (k : Class) (i : Nat) (f : Field), U.fieldFound? Bundle.tN "backtrace" "Ljava/lang/Object;" = some (c, k, i, f) → cell.slots[f.slot]? = some .null
/-- its end: only the object at a has changed -/
def zkQc (a : Nat) (_ : Array Value) (s : State) (o : Outcome) (t : State) : Prop := o = .returned none ∧ t.heap.size = s.heap.size ∧ (∀ q : Nat, q ≠ a → t.heap[q]? = s.heap[q]?) ∧ ∃ c0 ce : Cell, s.heap[a]? = some c0 ∧ t.heap[a]? = some ce ∧ ce.vm = .none ∧ ce.cls = c0.cls
theorem zkB.blind {g : zG} {a : Nat} {av : List Value} : FrameBlind (va_Pc av (zkB g a)) := by
  intro ar U f mk h
  obtain ⟨q0, hT, hrest⟩ := h
  have hI : zT g (U.calling f mk ar) := by
    obtain ⟨q4, q5, q6, q7, q8⟩ := hT
    refine ⟨va_K.moved (u := U) (U := U.calling f mk ar) (Vm.Alike.refl U.vm) q4, ?_, fun q hq => ?_, fun q hq => ?_, zN.moved (s := U) (U := U.calling f mk ar) (Vm.Alike.refl U.vm) (fun _ _ _ => rfl) q8⟩
    · obtain ⟨h1, h2, h3, h4, h5, h6, h7⟩ := q5
      have same : (U.calling f mk ar).vm = U.vm := rfl
      exact ⟨fun a i b n d x hm => va_Nw.same rfl same.symm (h1 a i b n d x hm), fun a i x y hm => va_Nw.same rfl same.symm (h2 a i x y hm), fun C T hm => va_Nw.same rfl same.symm (h3 C T hm), fun x hm => va_Nw.same rfl same.symm (h4 x hm), fun C hm => va_AO.moved (u := U) (Vm.Alike.refl U.vm) (h5 C hm), fun q hq => h6 q hq, fun q hq => h7 q hq⟩
    · exact va_Z.moved (u := U) (Vm.Alike.refl U.vm) (q6 q hq)
    · exact va_OF.moved (u := U) (Vm.Alike.refl U.vm) (q7 q hq)
  exact ⟨q0, hI, hrest⟩
