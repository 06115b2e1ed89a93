/-! THE INTERPRETER: calls through an interface: Iterator on ArrayList's iterator, Comparable on Order (printed by tools/ifaces.py) -/
set_option maxRecDepth 100000
/-- (class's number, entry, receiver's class), (method's number, arguments) -/
abbrev zjt : Type := (Nat × Nat × Nat) × (Nat × Nat)
/-- class, interface's method, its own: what a g must hold -/
def zji : List (String × MethodName × MethodName) := [("java/util/ArrayList$Itr", ({ cls := "java/util/Iterator", name := "hasNext", desc := "()Z" } : Jvm.MethodName), ({ cls := "java/util/ArrayList$Itr", name := "hasNext", desc := "()Z" } : Jvm.MethodName)), ("java/util/ArrayList$Itr", ({ cls := "java/util/Iterator", name := "next", desc := "()Ljava/lang/Object;" } : Jvm.MethodName), ({ cls := "java/util/ArrayList$Itr", name := "next", desc := "()Ljava/lang/Object;" } : Jvm.MethodName)), ("Foundrymark$Order", ({ cls := "java/lang/Comparable", name := "compareTo", desc := "(Ljava/lang/Object;)I" } : Jvm.MethodName), ({ cls := "Foundrymark$Order", name := "compareTo", desc := "(Ljava/lang/Object;)I" } : Jvm.MethodName)), ("java/util/ArrayList", ({ cls := "java/util/Collection", name := "toArray", desc := "()[Ljava/lang/Object;" } : Jvm.MethodName), ({ cls := "java/util/ArrayList", name := "toArray", desc := "()[Ljava/lang/Object;" } : Jvm.MethodName))]
def zj_good (r : zjt) : Prop := ∃ (own C : String) (T : u_T) (N : Nat) (x : MethodName) (μ : zMt), zcn[r.1.1]? = some own ∧ zcl[r.1.2.2]? = some (C, T, N) ∧ zML[r.2.1]? = some μ ∧ (x.cls ≠ "java/lang/invoke/MethodHandle" ∧ x.cls ≠ "java/lang/invoke/VarHandle" ∧ (parseMethodDescriptor x.desc).map (fun d => d.parameters.length) = some r.2.2) ∧ (C, x, μ.1) ∈ zji ∧
  Cond.methodLink own r.1.2.1 x ∈ lw_all ∧ Cond.selects C x μ.1 ∈ lw_all ∧ Cond.instanceMethod μ.1 ∈ lw_all ∧ Cond.initialized μ.1.cls ∈ lw_all
def zj0 : zjt := ((0, 159, 17), (10, 0))
theorem zj0_g : zj_good zj0 := ⟨_, "java/util/ArrayList$Itr", _, _, ({ cls := "java/util/Iterator", name := "hasNext", desc := "()Z" } : Jvm.MethodName), zm10, rfl, rfl, rfl, ⟨by decide +kernel, by decide +kernel, by decide +kernel⟩, List.mem_of_getElem? (i := 0) rfl, q213, q217, q219, q79⟩
def zj1 : zjt := ((13, 41, 17), (10, 0))
theorem zj1_g : zj_good zj1 := ⟨_, "java/util/ArrayList$Itr", _, _, ({ cls := "java/util/Iterator", name := "hasNext", desc := "()Z" } : Jvm.MethodName), zm10, rfl, rfl, rfl, ⟨by decide +kernel, by decide +kernel, by decide +kernel⟩, List.mem_of_getElem? (i := 0) rfl, q367, q217, q219, q79⟩
def zj2 : zjt := ((44, 38, 17), (10, 0))
theorem zj2_g : zj_good zj2 := ⟨_, "java/util/ArrayList$Itr", _, _, ({ cls := "java/util/Iterator", name := "hasNext", desc := "()Z" } : Jvm.MethodName), zm10, rfl, rfl, rfl, ⟨by decide +kernel, by decide +kernel, by decide +kernel⟩, List.mem_of_getElem? (i := 0) rfl, q1700, q217, q219, q79⟩
def zj3 : zjt := ((41, 127, 17), (10, 0))
theorem zj3_g : zj_good zj3 := ⟨_, "java/util/ArrayList$Itr", _, _, ({ cls := "java/util/Iterator", name := "hasNext", desc := "()Z" } : Jvm.MethodName), zm10, rfl, rfl, rfl, ⟨by decide +kernel, by decide +kernel, by decide +kernel⟩, List.mem_of_getElem? (i := 0) rfl, q1690, q217, q219, q79⟩
def zj4 : zjt := ((0, 165, 17), (11, 0))
theorem zj4_g : zj_good zj4 := ⟨_, "java/util/ArrayList$Itr", _, _, ({ cls := "java/util/Iterator", name := "next", desc := "()Ljava/lang/Object;" } : Jvm.MethodName), zm11, rfl, rfl, rfl, ⟨by decide +kernel, by decide +kernel, by decide +kernel⟩, List.mem_of_getElem? (i := 1) rfl, q223, q226, q228, q79⟩
def zj5 : zjt := ((13, 47, 17), (11, 0))
theorem zj5_g : zj_good zj5 := ⟨_, "java/util/ArrayList$Itr", _, _, ({ cls := "java/util/Iterator", name := "next", desc := "()Ljava/lang/Object;" } : Jvm.MethodName), zm11, rfl, rfl, rfl, ⟨by decide +kernel, by decide +kernel, by decide +kernel⟩, List.mem_of_getElem? (i := 1) rfl, q369, q226, q228, q79⟩
def zj6 : zjt := ((44, 44, 17), (11, 0))
theorem zj6_g : zj_good zj6 := ⟨_, "java/util/ArrayList$Itr", _, _, ({ cls := "java/util/Iterator", name := "next", desc := "()Ljava/lang/Object;" } : Jvm.MethodName), zm11, rfl, rfl, rfl, ⟨by decide +kernel, by decide +kernel, by decide +kernel⟩, List.mem_of_getElem? (i := 1) rfl, q1702, q226, q228, q79⟩
def zj7 : zjt := ((41, 132, 17), (11, 0))
theorem zj7_g : zj_good zj7 := ⟨_, "java/util/ArrayList$Itr", _, _, ({ cls := "java/util/Iterator", name := "next", desc := "()Ljava/lang/Object;" } : Jvm.MethodName), zm11, rfl, rfl, rfl, ⟨by decide +kernel, by decide +kernel, by decide +kernel⟩, List.mem_of_getElem? (i := 1) rfl, q1692, q226, q228, q79⟩
def zj8 : zjt := ((19, 146, 8), (137, 1))
theorem zj8_g : zj_good zj8 := ⟨_, "Foundrymark$Order", _, _, ({ cls := "java/lang/Comparable", name := "compareTo", desc := "(Ljava/lang/Object;)I" } : Jvm.MethodName), zm137, rfl, rfl, rfl, ⟨by decide +kernel, by decide +kernel, by decide +kernel⟩, List.mem_of_getElem? (i := 2) rfl, q1179, q1183, q1185, q82⟩
def zj9 : zjt := ((1, 42, 16), (165, 0))
theorem zj9_g : zj_good zj9 := ⟨_, "java/util/ArrayList", _, _, ({ cls := "java/util/Collection", name := "toArray", desc := "()[Ljava/lang/Object;" } : Jvm.MethodName), zm165, rfl, rfl, rfl, ⟨by decide +kernel, by decide +kernel, by decide +kernel⟩, List.mem_of_getElem? (i := 3) rfl, q1328, q1332, q1334, q43⟩
def zjL : List zjt := [zj0, zj1, zj2, zj3, zj4, zj5, zj6, zj7, zj8, zj9]
theorem zjL_good : ∀ r ∈ zjL, zj_good r := List.forall_mem_cons.mpr ⟨zj0_g, List.forall_mem_cons.mpr ⟨zj1_g, List.forall_mem_cons.mpr ⟨zj2_g, List.forall_mem_cons.mpr ⟨zj3_g, List.forall_mem_cons.mpr ⟨zj4_g, List.forall_mem_cons.mpr ⟨zj5_g, List.forall_mem_cons.mpr ⟨zj6_g, List.forall_mem_cons.mpr ⟨zj7_g, List.forall_mem_cons.mpr ⟨zj8_g, List.forall_mem_cons.mpr ⟨zj9_g, fun _ h => absurd h List.not_mem_nil⟩⟩⟩⟩⟩⟩⟩⟩⟩⟩
def zj_at (own idx ci : Nat) : Option (Nat × Nat) := (zjL.find? (fun r => r.1.1 == own && (r.1.2.1 == idx && r.1.2.2 == ci))).map (·.2)
theorem zj_at_ok {own idx ci : Nat} {x : Nat × Nat} (h : zj_at own idx ci = some x) : zj_good ((own, idx, ci), x) := by
  unfold zj_at at h
  cases hf : zjL.find? (fun r => r.1.1 == own && (r.1.2.1 == idx && r.1.2.2 == ci)) with
  | none => rw [hf] at h; cases h
  | some r =>
    rw [hf] at h
    obtain rfl := Option.some.inj h
    have h1 := List.find?_some hf
    have h2 := zjL_good r (List.mem_of_find?_eq_some hf)
    simp only [Bool.and_eq_true, beq_iff_eq] at h1
    obtain ⟨⟨a, b, c⟩, x⟩ := r
    obtain ⟨rfl, rfl, rfl⟩ := h1
    exact h2
section ZCF
variable {p : Program} {l : Launch} {e : Env} {R : Room} {s : State} {m : MethodId} {args : Array Value} {below : List Frame} {meth : Method} {c : Code} {H : Heap} {locs : List Loc} {cells slots : Nat} {Q : State → Prop}
variable {ls : Array Slot} {g : zG} {μ μ' : zMt} {own idx pc d b ci count : Nat} {rest As fs : List Value} {σ σ' : zS} {v : Option Value} {x : Nat × Nat}
theorem zk_callF (C : zCtx g p s m args meth c μ own) (hj : ∀ q ∈ zji, q ∈ zg_f g) (hx : zj_at own idx ci = some x) (hμ : zML[x.1]? = some μ') (hh : μ'.2.2.2.2 = []) (hL : μ'.2.2.1 ≤ 45) (hM : zMetR g l μ' d (.ref b :: As) σ v σ') (hw : σ.1 b = some (.inr (ci, fs)))
    (hP : zw_P (zg_D g) (zg_A g) (zg_cl g) σ.1 H) (hz : H.size = σ.2.1) (hn0 : zg_n g ≤ σ.2.1) (hS : va_S (zA g) s.heap H locs) (hsz : ls.size = μ.2.2.1) (hn : As.length = x.2) (hcat : (rest.map fun v => v.category).sum ≤ 8)
    (hfr : d + 1 ≤ R.frames) (hlo : 64 * (d + 1) ≤ R.locals) (hc0 : cells + (σ'.2.1 - σ.2.1) ≤ R.cells) (hs0 : slots + (σ'.2.2 - σ.2.2) ≤ R.slots) (hd : decode μ.2.1 pc = .ok (.invokeinterface idx count, 5))
    (kk : ∀ (H1 : Heap) (locs1 : List Loc), zw_P (zg_D g) (zg_A g) (zg_cl g) σ'.1 H1 → H1.size = σ'.2.1 → va_S (zA g) s.heap H1 locs1 → W p l e R s m args below meth c H1 locs1 (cells + (σ'.2.1 - σ.2.1)) (slots + (σ'.2.2 - σ.2.2)) Q (F0 m (pc + 5) ls (v.toList ++ rest))) : W p l e R s m args below meth c H locs cells slots Q (F0 m pc ls (As.reverse ++ .ref b :: rest)) := by
  obtain ⟨hx0, hb, hml, hr, hlk, hnm, ⟨nm, hnn, hown⟩, hts, hT, hcl⟩ := C
  obtain ⟨own', Cn, T, N, xm, μ2, b1, b2, b3, b4, b5, b6, b7, b8, b9⟩ := zj_at_ok hx
  cases Option.some.inj (b1.symm.trans hnn)
  cases Option.some.inj (b3.symm.trans hμ)
  have hcode := zk_code (x := x) hμ hh
  obtain ⟨p1, p2⟩ := zk_pre (As := .ref b :: As) hT hP hz hn0 hS
  have hat := hP b _ hw
  have hK := hT.1
  rw [hcl] at hat hK
  have hrc := zk_recv hK hat b2
  have hca := zk_class hK b2
  have hF := (hT.2.1.2.2.2.2.2.1 _ (hj _ b5)).2
  have hG : GoodIn lw_all (va_wsF nm idx Cn xm μ'.1 (ws_ μ'.1 μ'.2.1 μ'.2.2.1 μ'.2.2.2.1)) := by
    refine lw_app ?_ (lw_meth hcode)
    intro w hw
    simp only [List.mem_cons, List.not_mem_nil, or_false] at hw
    rcases hw with e1 | e1 | e1 | e1
    · rw [e1]; exact b6
    · rw [e1]; exact b7
    · rw [e1]; exact b8
    · rw [e1]; exact b9
  exact zc_backF (vx_runF (n := x.2) hca ⟨hx0, hb, hml, hown, hts⟩ hM (va_cwF x.2 hts hG rfl rfl rfl hF b4 ⟨hfr, by show 8 + (μ'.2.2.1 + 11) + 64 * d ≤ R.locals; omega⟩) ⟨p1, hrc, p2⟩ rfl hn hsz rfl (lv_room hcat) hd ⟨hc0, hs0⟩) hS kk
end ZCF
