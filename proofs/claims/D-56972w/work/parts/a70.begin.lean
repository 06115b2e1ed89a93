/-! THE START: the arrays and the boxed numbers that lie in the heap before the law's first step -/
set_option maxRecDepth 100000
theorem zB_arr {s : State} {ce : Cell} {ty : FieldType} (h : s.isArrayOf ce ty) : ArrOfT s ce.cls ty := by
  obtain ⟨-, k, h2, comp, h3⟩ := h
  exact fun n z => ⟨(fun k h => by cases h), k, h2, comp, h3⟩
theorem zB_like {ce : Cell} {n : Nat} {f : Nat → Value} (hv : ce.vm ≠ .unknown) (hs : ∀ k, ce.vm ≠ .statics k) (hn : n ≤ ce.slots.size) (hn2 : ce.slots.size.toInt32 = n.toInt32) (hf : ∀ j : Nat, j < n → ce.slots[j]? = some (f j)) : zy_like ce (arrV ce.cls n f) := by
  refine ⟨rfl, ⟨hv, hs⟩, ?_, ?_, ?_⟩
  · rw [arrV_size]
    exact hn
  · rw [arrV_size]
    exact hn2
  · intro j hj
    rw [arrV_size] at hj
    rw [hf j hj, arrV_read _ _ hj]
theorem zB_nst {ce : Cell} (h : ce.vm.isStatics = false) : ∀ k, ce.vm ≠ .statics k := fun k q => by
  rw [q] at h
  cases h
theorem zB_script {b L : Nat} {xs : Nat → Int32} {s : State} (h : va_X b L xs s s.heap) : ∃ ce : Cell, s.heap[b]? = some ce ∧ s.isArrayOf ce .int ∧ zy_like ce (vp_cell ce.cls (L, .inl xs)) := by
  obtain ⟨ce, h1, h2, h3, h4, h5⟩ := h
  exact ⟨ce, h1, h2, zB_like h3 h2.1 (by omega) (by rw [h4]) h5⟩
abbrev stE : Term := .static "java/util/ArrayList" "DEFAULTCAPACITY_EMPTY_ELEMENTDATA" "[Ljava/lang/Object;"
abbrev stC : Term := .static "java/lang/Integer$IntegerCache" "cache" "[Ljava/lang/Integer;"
theorem zB_empty {args : Array Value} {s : State} (hgv : (Jvm.Cond.and given_1 narrow_1).before args s = true) : ∃ (E : Nat) (ce : Cell), stE.eval args s none [] s = some (.ref E) ∧ s.heap[E]? = some ce ∧ s.isArrayOf ce (.object "java/lang/Object") ∧ s.vm.findClass "[Ljava/lang/Object;" = some ce.cls ∧ zy_like ce (vp_cell ce.cls (0, .inr (.inr (.inr (.inr (fun _ => none)))))) := by
  have hs := flat_of_before _ hgv
  obtain ⟨a, c, ce, k, q1, q2, q3, q4, q5, q6, -⟩ := Cond.exactly_spec (args := args) (first := s) (o := none) (s := s) (idx := []) (hs (Cond.exactly stE "[Ljava/lang/Object;") (by decide +kernel))
  obtain ⟨h1, h2⟩ := Cond.arrayOf_spec (hs (Cond.arrayOf stE (.object "java/lang/Object")) (by decide +kernel)) q1 q3
  obtain ⟨t, cell, ht, hat, hv⟩ := Term.length_spec (va_eqt (hs (Cond.eq (.length stE) (.int 0)) (by decide +kernel)))
  cases q1.symm.trans ht
  obtain ⟨hcell, -⟩ := State.arrayAt?_spec hat
  cases q3.symm.trans hcell
  exact ⟨a, ce, q1, q3, h1, by rw [q6]; exact q2, zB_like h2 h1.1 (Nat.zero_le _) (Value.int.inj hv).symm (fun j hj => absurd hj (Nat.not_lt_zero _))⟩
theorem zB_all {args : Array Value} {s : State} (hgv : (Jvm.Cond.and given_1 narrow_1).before args s = true) : (Cond.all stC (.and (.exactly (.elem stC (.index 0)) "java/lang/Integer") (.eq (.field (.elem stC (.index 0)) "java/lang/Integer" "value" "I") (.sub (.index 0) (.int 128))))).before args s = true :=
  flat_of_before _ hgv _ (by decide +kernel)
theorem zB_len {args : Array Value} {s : State} (hgv : (Jvm.Cond.and given_1 narrow_1).before args s = true) : (Term.length stC).eval args s none [] s = some (.int (Int32.ofNat 256)) :=
  va_eqt (z := Int32.ofNat 256) (flat_of_before _ hgv (Cond.eq (.length stC) (.int (Int32.ofNat 256))) (by decide +kernel))
theorem zB_arrC {args : Array Value} {s : State} (hgv : (Jvm.Cond.and given_1 narrow_1).before args s = true) : (Cond.arrayOf stC (.object "java/lang/Integer")).before args s = true :=
  flat_of_before _ hgv _ (by decide +kernel)
theorem zB_cacheN {args : Array Value} {s : State} {N : Nat} (hN : N < 2 ^ 31) {ci : Nat → Nat} (harr : (Cond.arrayOf stC (.object "java/lang/Integer")).before args s = true) (hlen : (Term.length stC).eval args s none [] s = some (.int (Int32.ofNat N))) (hel : ∀ j : Nat, j < N → (Term.elem stC (.int (Int32.ofNat j))).eval args s none [] s = some (.ref (ci j))) : ∃ (A : Nat) (ce : Cell), stC.eval args s none [] s = some (.ref A) ∧ s.heap[A]? = some ce ∧ s.isArrayOf ce (.object "java/lang/Integer") ∧ zy_like ce (vp_cell ce.cls (N, .inr (.inr (.inr (.inr (fun j => some (ci j))))))) := by
  have hA : ∀ a : Nat, a < s.heap.size → ¬ (fun q => s.heap.size ≤ q) a := fun a h1 h2 => Nat.not_le.mpr h1 h2
  obtain ⟨t, ht, cell, h1, h2, h3, h4, h5, h6, -⟩ := va_Tof (f := fun j => .ref (ci j)) hN harr hlen hel hA
  exact ⟨t, cell, ht, h1, h2, zB_like h3 h2.1 h4 h5 (fun j hj => h6 j hj)⟩
theorem zB_cache {args : Array Value} {s : State} (hgv : (Jvm.Cond.and given_1 narrow_1).before args s = true) : ∃ (A : Nat) (ce : Cell) (ci : Nat → Nat), stC.eval args s none [] s = some (.ref A) ∧ s.heap[A]? = some ce ∧ s.isArrayOf ce (.object "java/lang/Integer") ∧ zy_like ce (vp_cell ce.cls (256, .inr (.inr (.inr (.inr (fun j => some (ci j))))))) ∧ vb_C ci (fun q => s.heap.size ≤ q) s s.heap := by
  have hA : ∀ a : Nat, a < s.heap.size → ¬ (fun q => s.heap.size ≤ q) a := fun a h1 h2 => Nat.not_le.mpr h1 h2
  obtain ⟨ci, hC, hel⟩ := vb_Cof (st := stC) rfl (zB_len hgv) (zB_all hgv) hA
  obtain ⟨A, ce, q1, q2, q3, q4⟩ := zB_cacheN (N := 256) (by omega) (zB_arrC hgv) (zB_len hgv) hel
  exact ⟨A, ce, ci, q1, q2, q3, q4, hC⟩
theorem vb_c_iv : ∀ j : Nat, j < 256 → Value.int (vb_c j) = iv ((j : Int) - 128) := by
  have h : ∀ j : Fin 256, vb_c j.1 = Int32.ofInt ((j.1 : Int) - 128) := by decide +kernel
  intro j hj
  exact congrArg Value.int (h ⟨j, hj⟩)
/-- the world of the start: the script, ArrayList's empty array, the cache, the boxed numbers -/
def zB_w (b L : Nat) (xs : Nat → Int32) (E A : Nat) (ci : Nat → Nat) : zw_W := fun a => if a = b then some (.inl (8, L, .inl xs)) else if a = E then some (wArr 0 (fun _ => none)) else if a = A then some (.inl (7, 256, .inr (.inr (.inr (.inr (fun j => some (ci j))))))) else ((List.range 256).find? (fun j => ci j == a)).map (fun j => .inr (19, [iv ((j : Int) - 128)]))
theorem zB_ne {s : State} {c1 c2 : Cell} {a1 a2 : Nat} {t1 t2 : FieldType} (h1 : s.heap[a1]? = some c1) (h2 : s.heap[a2]? = some c2) (k1 : s.isArrayOf c1 t1) (k2 : s.isArrayOf c2 t2) (hne : t1 ≠ t2) : a1 ≠ a2 := by
  rintro rfl
  cases Option.some.inj (h1.symm.trans h2)
  obtain ⟨-, q1, q2, cm, q3⟩ := k1
  obtain ⟨-, r1, r2, cn, r3⟩ := k2
  cases Option.some.inj (q2.symm.trans r2)
  cases q3.symm.trans r3
  exact hne rfl
theorem zB_ji {args : Array Value} {s : State} (hts : ∀ w ∈ lw_tbl, w.before args s = true) : ∀ q ∈ zji, (q.2.1.cls ≠ "java/lang/invoke/MethodHandle" ∧ q.2.1.cls ≠ "java/lang/invoke/VarHandle") ∧ va_Fw q.1 q.2.1 q.2.2 s := by
  have key : ∀ q ∈ zji, (q.2.1.cls ≠ "java/lang/invoke/MethodHandle" ∧ q.2.1.cls ≠ "java/lang/invoke/VarHandle") ∧ Cond.declares q.2.1 ∈ lw_tbl ∧ Cond.interfaceMethod q.2.1.cls q.2.1.cls q.2.1.name q.2.1.desc ∈ lw_tbl ∧ Cond.publicMethod q.2.2 ∈ lw_tbl ∧ Cond.unhidden q.1 q.2.1.name q.2.1.desc ∈ lw_tbl ∧ Cond.castable q.1 q.2.1.cls ∈ lw_tbl := by decide +kernel
  intro q hq
  obtain ⟨k0, k1, k2, k3, k4, k5⟩ := key q hq
  exact ⟨k0, va_Fw.of (hts _ k1) (hts _ k2) (hts _ k3) (hts _ k4) (hts _ k5)⟩
def zB_nc : List (String × String) := znc ++ [("Foundrymark$Made", "Foundrymark$Bought"), ("Foundrymark$Bought", "Foundrymark$Made")]
theorem zB_ncOk {args : Array Value} {s : State} (hgv : (Jvm.Cond.and given_1 narrow_1).before args s = true) : ∀ q ∈ zB_nc, va_Nc q.1 q.2 s := by
  have hs := flat_of_before _ hgv
  have key : ∀ q ∈ zB_nc, Cond.not (.castable q.1 q.2) ∈ flatC (Jvm.Cond.and given_1 narrow_1) := by decide +kernel
  exact fun q hq => va_Nc.of (hs _ (key q hq))
