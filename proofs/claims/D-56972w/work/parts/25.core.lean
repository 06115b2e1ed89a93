/-! THE INTERPRETER: what holds at every state of the run (zI), how it is taken along, and what a call leaves -/
/-- what is fixed for the run: class ids and slots, array classes by number, the classes, the array types, the heap's size at the law's start, the statics read off at the start, the interface calls, the pairs that can't be cast, the constant objects' fields (owner, name, type, value, address) -/
abbrev zG : Type := va_G × (Nat → Nat) × List vw_C × List (ClassId × FieldType) × Nat × List (String × String × String × Value) × List (String × MethodName × MethodName) × List (String × String) × List (String × String × String × Value × Nat) × Nat × List (String × Nat)
abbrev zg_D (g : zG) : va_G := g.1
abbrev zg_A (g : zG) : Nat → Nat := g.2.1
abbrev zg_cl (g : zG) : List vw_C := g.2.2.1
abbrev zg_ty (g : zG) : List (ClassId × FieldType) := g.2.2.2.1
abbrev zg_n (g : zG) : Nat := g.2.2.2.2.1
abbrev zg_s (g : zG) : List (String × String × String × Value) := g.2.2.2.2.2.1
abbrev zg_f (g : zG) : List (String × MethodName × MethodName) := g.2.2.2.2.2.2.1
abbrev zg_c (g : zG) : List (String × String) := g.2.2.2.2.2.2.2.1
abbrev zg_o (g : zG) : List (String × String × String × Value × Nat) := g.2.2.2.2.2.2.2.2.1
/-- the class object of Object[] -/
abbrev zg_m (g : zG) : Nat := g.2.2.2.2.2.2.2.2.2.1
/-- the classes of the constant objects that methods are called on -/
abbrev zg_k (g : zG) : List (String × Nat) := g.2.2.2.2.2.2.2.2.2.2
/-- the cells that the run may write: those that it made -/
abbrev zA (g : zG) : Nat → Prop := fun q => zg_n g ≤ q
/-- the words that don't ride in the methods' lists -/
def zE (g : zG) (U : State) : Prop :=
  (∀ (a : String) (i : Nat) (b n d h : String), Cond.fieldLinkNest a i b n d h ∈ lw_tbl → va_Nw (.fieldLinkNest a i b n d h) U) ∧
  (∀ (a : String) (i : Nat) (x : MethodName) (h : String), Cond.methodLinkNest a i x h ∈ lw_tbl → va_Nw (.methodLinkNest a i x h) U) ∧
  (∀ C T : String, Cond.castable C T ∈ lw_tbl → va_Nw (.castable C T) U) ∧
  (∀ x : MethodName, Cond.declares x ∈ lw_tbl → va_Nw (.declares x) U) ∧
  (∀ C : String, Cond.arrayOver (.object C) ∈ lw_tbl → va_AO C U) ∧
  (∀ q ∈ zg_f g, (q.2.1.cls ≠ "java/lang/invoke/MethodHandle" ∧ q.2.1.cls ≠ "java/lang/invoke/VarHandle") ∧ va_Fw q.1 q.2.1 q.2.2 U) ∧
  (∀ q ∈ zg_c g, va_Nc q.1 q.2 U)
theorem zE.moved {g : zG} {s U : State} (hW : s.WarmedH U.vm) (h : zE g s) : zE g U := by
  obtain ⟨h1, h2, h3, h4, h5, h6, h7⟩ := h
  exact ⟨fun a i b n d x hm => va_Nw.warmF hW (h1 a i b n d x hm), fun a i x y hm => va_Nw.warmM hW (h2 a i x y hm), fun C T hm => va_Nw.warmC hW (h3 C T hm), fun x hm => va_Nw.warmD hW (h4 x hm), fun C hm => va_AO.moved hW.alike (h5 C hm), fun q hq => ⟨(h6 q hq).1, va_Fw.moved (h6 q hq).1 hW.alike (h6 q hq).2⟩, fun q hq => va_Nc.moved hW.alike (h7 q hq)⟩
/-- the same, where the vm is only known alike -/
theorem zE.alike {g : zG} {s U : State} (hA : s.vm.Alike U.vm) (hW : s.WarmedH U.vm) (h : zE g s) : zE g U := zE.moved hW h
/-- what exceptions and class objects need besides: Throwable's two statics, the class object of Object[] -/
def zN (g : zG) (U : State) : Prop := vx_Zq Bundle.tN "UNASSIGNED_STACK" Bundle.steD (zA g) U U.heap ∧ vx_Zq Bundle.tN "SUPPRESSED_SENTINEL" Bundle.listD (zA g) U U.heap ∧ (va_Mi "[Ljava/lang/Object;" (zg_m g) U ∧ ArrOfT U (zg_A g 7) (.object "java/lang/Integer") ∧ ArrOfT U (zg_A g 8) .int ∧ (zg_D g).2 20 0 = zg_n g) ∧ ∀ q ∈ zg_k g, va_O q.1 q.2 (zA g) U U.heap
theorem zN.moved {g : zG} {s U : State} (hA : s.vm.Alike U.vm) (hq : ∀ a : Nat, a < s.heap.size → ¬ zA g a → U.heap[a]? = s.heap[a]?) (h : zN g s) : zN g U := by
  obtain ⟨h1, h2, h3, h4⟩ := h
  exact ⟨vx_Zq.moved hA (h1.kept hq), vx_Zq.moved hA (h2.kept hq), ⟨h3.1.moved hA, arrOfT_moved hA h3.2.1, arrOfT_moved hA h3.2.2.1, h3.2.2.2⟩, fun q hm => va_O.moved hA ((h4 q hm).kept hq)⟩
/-- what of the tables and the statics holds at a state -/
def zT (g : zG) (U : State) : Prop := va_K (zg_D g) (zg_cl g) (zg_ty g) U ∧ zE g U ∧ (∀ q ∈ zg_s g, va_Z q.1 q.2.1 q.2.2.1 q.2.2.2 (zA g) U U.heap) ∧ (∀ q ∈ zg_o g, va_OF q.1 q.2.1 q.2.2.1 q.2.2.2.1 q.2.2.2.2 (zA g) U U.heap) ∧ zN g U
abbrev zS : Type := zw_W × Nat × Nat
/-- the world: the cells, the heap's size -/
def zI (g : zG) (σ : zS) (U : State) : Prop := zw_P (zg_D g) (zg_A g) (zg_cl g) σ.1 U.heap ∧ U.heap.size = σ.2.1 ∧ zg_n g ≤ σ.2.1 ∧ zT g U
theorem zT.moved {g : zG} {s U : State} {H : Heap} {locs : List Loc} (hW : s.WarmedH U.vm) (hS : va_S (zA g) s.heap H locs) (hU : U.heap = H) (h : zT g s) : zT g U := by
  obtain ⟨h1, h2, h3, h6, h9⟩ := h
  refine ⟨va_K.moved hW.alike h1, zE.moved hW h2, fun q hq => ?_, fun q hq => ?_, zN.moved hW.alike (by rw [hU]; exact hS.2.1) h9⟩
  · rw [hU]
    exact va_Z.moved hW.alike ((h3 q hq).kept (fun a h4 h5 => hS.2.1 a h4 h5))
  · rw [hU]
    exact va_OF.moved hW.alike ((h6 q hq).kept (fun a h4 h5 => hS.2.1 a h4 h5))
/-- the invariant at a state whose heap is the one at hand -/
theorem zI.here {g : zG} {σ : zS} {s U : State} {H : Heap} {locs : List Loc} (hP : zw_P (zg_D g) (zg_A g) (zg_cl g) σ.1 H) (hz : H.size = σ.2.1) (hn : zg_n g ≤ σ.2.1) (hT : zT g s) (hS : va_S (zA g) s.heap H locs) (hW : s.WarmedH U.vm) (hU : U.heap = H) : zI g σ U :=
  ⟨by rw [hU]; exact hP, by rw [hU]; exact hz, hn, zT.moved hW hS hU hT⟩
theorem zI.blind {g : zG} {σ : zS} {av : List Value} : FrameBlind (va_Pc av (fun U => zI g σ U)) := by
  intro a U f mk h
  obtain ⟨q0, q1, q2, q3, q4, q5, q6, q7, q8⟩ := h
  refine ⟨q0, q1, q2, q3, va_K.moved (u := U) (U := U.calling f mk a) (Vm.Alike.refl U.vm) q4, ?_, fun q hq => ?_, fun q hq => ?_, zN.moved (s := U) (U := U.calling f mk a) (Vm.Alike.refl U.vm) (fun _ _ _ => rfl) q8⟩
  · obtain ⟨h1, h2, h3, h4, h5, h6, h7⟩ := q5
    have same : (U.calling f mk a).vm = U.vm := rfl
    exact ⟨fun a i b n d x hm => va_Nw.same rfl same.symm (h1 a i b n d x hm), fun a i x y hm => va_Nw.same rfl same.symm (h2 a i x y hm), fun C T hm => va_Nw.same rfl same.symm (h3 C T hm), fun x hm => va_Nw.same rfl same.symm (h4 x hm), fun C hm => va_AO.moved (u := U) (Vm.Alike.refl U.vm) (h5 C hm), fun q hq => ⟨(h6 q hq).1, va_Fw.moved (u := U) (h6 q hq).1 (Vm.Alike.refl U.vm) (h6 q hq).2⟩, fun q hq => va_Nc.moved (u := U) (Vm.Alike.refl U.vm) (h7 q hq)⟩
  · exact va_Z.moved (u := U) (Vm.Alike.refl U.vm) (q6 q hq)
  · exact va_OF.moved (u := U) (Vm.Alike.refl U.vm) (q7 q hq)
/-- a method's end: it returned v, or it threw an E; the world then -/
def zQ (g : zG) (v : Option Value) (σ : zS) : Array Value → State → Outcome → State → Prop := fun _ st o t => o = .returned v ∧ zI g σ t ∧ va_F (zA g) st t
def zQ0 : Array Value → State → Outcome → State → Prop := fun _ _ _ _ => False
def zX (g : zG) (E : String) (σ : zS) : String → State → State → Prop := fun E' st t => E' = E ∧ zI g σ t ∧ va_F (zA g) st t
def zX0 : String → State → State → Prop := fun _ _ _ => False
section ZC
variable {p : Program} {l : Launch} {e : Env} {R : Room} {s : State} {m : MethodId} {args : Array Value} {below : List Frame} {meth : Method} {c : Code} {H : Heap} {locs : List Loc} {cells slots : Nat} {Q : State → Prop}
variable {mc ms : Nat} {free : Addr → Prop} {H0 : Heap} {a : Array Value} {pc : Nat} {ls : Array Slot} {st0 rest : List Value} {g : zG} {σ : zS}
/-- behind a call that returns -/
theorem zc_back {v : Option Value} (hr : vx_Run p l e R s m args below meth c H locs cells slots mc ms (F0 m pc ls st0) rest (zQ g v σ a) zX0 (zA g)) (hS : va_S (zA g) H0 H locs)
    (kk : ∀ (H1 : Heap) (locs1 : List Loc), zw_P (zg_D g) (zg_A g) (zg_cl g) σ.1 H1 → H1.size = σ.2.1 → va_S (zA g) H0 H1 locs1 → W p l e R s m args below meth c H1 locs1 (cells + mc) (slots + ms) Q (F0 m (pc + 3) ls (v.toList ++ rest))) : W p l e R s m args below meth c H locs cells slots Q (F0 m pc ls st0) := by
  intro T hT X
  rcases hr T hT X with ⟨v', st₀, t, T', L, h0, X', hL, e1, e2, ⟨hv, hI, hF⟩, st⟩ | ⟨q, st₀, t, T', L, E, ce, h0, X', hL, e1, e2, hx, hce, hcv, hcl, st⟩
  · cases hv
    obtain ⟨k1, k2, k3⟩ := vx_keep h0 e1 hS (fun _ _ h => h) (fun _ h => h) hL hF
    obtain ⟨t2, a1, b1⟩ := kk T'.heap (locs ++ L) (by rw [e1]; exact hI.1) (by rw [e1]; exact hI.2.1) k3 T' rfl X'
    exact ⟨t2, st t2 a1, b1⟩
  · exact absurd hx (fun h => h)
/-- behind a call through an interface that returns -/
theorem zc_backF {v : Option Value} (hr : vx_Run5 p l e R s m args below meth c H locs cells slots mc ms (F0 m pc ls st0) rest (zQ g v σ a) zX0 (zA g)) (hS : va_S (zA g) H0 H locs)
    (kk : ∀ (H1 : Heap) (locs1 : List Loc), zw_P (zg_D g) (zg_A g) (zg_cl g) σ.1 H1 → H1.size = σ.2.1 → va_S (zA g) H0 H1 locs1 → W p l e R s m args below meth c H1 locs1 (cells + mc) (slots + ms) Q (F0 m (pc + 5) ls (v.toList ++ rest))) : W p l e R s m args below meth c H locs cells slots Q (F0 m pc ls st0) := by
  intro T hT X
  rcases hr T hT X with ⟨v', st₀, t, T', L, h0, X', hL, e1, e2, ⟨hv, hI, hF⟩, st⟩ | ⟨q, st₀, t, T', L, E, ce, h0, X', hL, e1, e2, hx, hce, hcv, hcl, st⟩
  · cases hv
    obtain ⟨k1, k2, k3⟩ := vx_keep h0 e1 hS (fun _ _ h => h) (fun _ h => h) hL hF
    obtain ⟨t2, a1, b1⟩ := kk T'.heap (locs ++ L) (by rw [e1]; exact hI.1) (by rw [e1]; exact hI.2.1) k3 T' rfl X'
    exact ⟨t2, st t2 a1, b1⟩
  · exact absurd hx (fun h => h)
/-- behind a call that throws an E -/
theorem zc_thrown {E : String} (hr : vx_Run p l e R s m args below meth c H locs cells slots mc ms (F0 m pc ls st0) rest (zQ0 a) (zX g E σ) (zA g)) (hS : va_S (zA g) H0 H locs)
    (kx : ∀ (q : Nat) (ce : Cell) (H1 : Heap) (locs1 : List Loc), zw_P (zg_D g) (zg_A g) (zg_cl g) σ.1 H1 → H1.size = σ.2.1 → va_S (zA g) H0 H1 locs1 → H1[q]? = some ce → ce.vm = .none → s.vm.findClass E = some ce.cls → vx_W p l e R s m args below meth c H1 locs1 (cells + mc) (slots + ms) Q (F0 m pc ls rest) q) : W p l e R s m args below meth c H locs cells slots Q (F0 m pc ls st0) := by
  intro T hT X
  rcases hr T hT X with ⟨v', st₀, t, T', L, h0, X', hL, e1, e2, hx, st⟩ | ⟨q, st₀, t, T', L, E', ce, h0, X', hL, e1, e2, ⟨hE, hI, hF⟩, hce, hcv, hcl, st⟩
  · exact absurd hx (fun h => h)
  · subst hE
    obtain ⟨k1, k2, k3⟩ := vx_keep h0 e1 hS (fun _ _ h => h) (fun _ h => h) hL hF
    obtain ⟨t2, a1, b1⟩ := kx q ce T'.heap (locs ++ L) (by rw [e1]; exact hI.1) (by rw [e1]; exact hI.2.1) k3 (by rw [e1]; exact hce) hcv hcl T' rfl X'
    exact ⟨t2, st.trans a1, b1⟩
end ZC
