/-! THE INTERPRETER: rows of casts, of 'instanceof', of what may be laid into an array of references, by address -/
section ZK
variable {p : Program} {l : Launch} {e : Env} {R : Room} {s : State} {m : MethodId} {args : Array Value} {below : List Frame} {meth : Method} {c : Code} {H : Heap} {locs : List Loc} {cells slots : Nat} {Q : State → Prop}
variable {cc : ByteArray} {pc : Nat} {ls : Array Slot} {rest : List Value} {D : va_G} {cl : List vw_C} {a : Nat} {tys : List (ClassId × FieldType)} {own nm : String} {index ci : Nat} {fs : List Value} {r : vw_C}
/-- an object's cell, and its class by its name -/
theorem zk_recv (hK : va_K D cl tys s) (hw : zy_at D cl (a, .inr (ci, fs)) H) (hc : cl[ci]? = some r) : ∃ cell : Cell, H[a]? = some cell ∧ cell.vm.isStatics = false ∧ s.vm.findClass r.1 = some cell.cls := by
  rcases hw with hw | ⟨-, r2, cell, h1, q1, q2, q3, q4⟩
  · exact va_recv hK (zh_one hw) (q0 := 0) hc rfl
  · refine ⟨cell, q1, ?_, ?_⟩
    · cases hv : cell.vm with
      | statics k => exact absurd hv (q3.2 k)
      | _ => rfl
    · rw [q2]
      exact (hK.1 ci r hc).2.1
/-- an array's cell, and its class by its name -/
theorem zk_recvA {cA : ClassId} {x : vp_A} {C : String} (hw : zy_at D cl (a, .inl (cA, x)) H) (hn : s.vm.findClass C = some cA) : ∃ cell : Cell, H[a]? = some cell ∧ cell.vm.isStatics = false ∧ s.vm.findClass C = some cell.cls := by
  have hcl0 : (vp_cell cA x).cls = cA := by
    obtain ⟨n, f | f | f | f | f⟩ := x <;> rfl
  obtain ⟨ce, h1, h2⟩ := hw
  exact ⟨ce, h1, zy_sta h2, by rw [h2.1, hcl0]; exact hn⟩
/-- it may be laid into an array of E's: its class can be cast to E -/
theorem zk_any {C E : String} (hr : ∃ cell : Cell, H[a]? = some cell ∧ cell.vm.isStatics = false ∧ s.vm.findClass C = some cell.cls) (hc : va_Nw (.castable C E) s) : va_Any E s H a := by
  obtain ⟨cell, h1, h2, h3⟩ := hr
  obtain ⟨c0, t0, f1, f2, f3⟩ := Cond.castable_spec (va_Nw.use (A := #[]) rfl hc)
  cases h3.symm.trans f1
  obtain ⟨kC, hkC, -⟩ := Vm.findClass_spec h3
  exact ⟨cell, h1, h2, ⟨kC, hkC⟩, fun comp h => by cases h.symm.trans f2; exact f3⟩
/-- .. or it is E's own -/
theorem zk_anyS {E : String} {cE : ClassId} (hr : ∃ cell : Cell, H[a]? = some cell ∧ cell.vm.isStatics = false ∧ s.vm.findClass E = some cell.cls) (hc : ClassAt s E cE) : va_Any E s H a := by
  obtain ⟨cell, h1, h2, h3⟩ := hr
  obtain ⟨kC, hkC, -⟩ := Vm.findClass_spec h3
  have e1 : cE = cell.cls := Option.some.inj (hc.1.symm.trans h3)
  refine ⟨cell, h1, h2, ⟨kC, hkC⟩, fun comp h => ?_⟩
  cases h.symm.trans h3
  rw [← e1]
  exact va_assign hc
theorem zk_class (hK : va_K D cl tys s) (hc : cl[ci]? = some r) : ClassAt s r.1 (D.1 ci) := (hK.1 ci r hc).2
theorem zk_castS {cC : ClassId} (hx : p.tables.exec = Jvm.exec) (hb : c.code = cc) (hown : s.vm.findClass own = some m.cls) (hlink : (Cond.classLink own index nm).before args s = true) (hc : ClassAt s nm cC) (hr : ∃ cell : Cell, H[a]? = some cell ∧ cell.vm.isStatics = false ∧ s.vm.findClass nm = some cell.cls) (hdg : decode cc pc = .ok (.checkcast index, 3))
    (k : W p l e R s m args below meth c H locs cells slots Q (F0 m (pc + 3) ls (.ref a :: rest))) : W p l e R s m args below meth c H locs cells slots Q (F0 m pc ls (.ref a :: rest)) := va_castS hx hb hown hlink hc hr hdg k
/-- a field of no object: it was read off at the start and stays -/
theorem zk_gets (hx : p.tables.exec = Jvm.exec) (hb : c.code = cc) {C n d ref : String} {v : Value} {A : Nat → Prop} (hZ : va_Z C n d v A s s.heap) (hS : va_S A s.heap H locs) (hown : s.vm.findClass own = some m.cls) (hlink : (Cond.fieldLink own index ref n d).before args s = true) (hsame : ∀ x, s.fieldFound? C n d = some x → s.fieldFound? ref n d = some x) (hdg : decode cc pc = .ok (.getstatic index, 3))
    (kk : W p l e R s m args below meth c H locs cells slots Q (F0 m (pc + 3) ls (v :: rest))) : W p l e R s m args below meth c H locs cells slots Q (F0 m pc ls rest) := va_gets hx hb hZ hS hown hlink hsame hdg kk
end ZK
