/-! THE START: the world w0 and all that tStart and tLoop ask of it -/
set_option maxRecDepth 100000
theorem zB_find {ci : Nat → Nat} (hinj : ∀ i j : Nat, i < 256 → j < 256 → ci i = ci j → i = j) {j : Nat} (hj : j < 256) : (List.range 256).find? (fun i => ci i == ci j) = some j := by
  cases hf : (List.range 256).find? (fun i => ci i == ci j) with
  | none =>
    have := List.find?_eq_none.mp hf j (List.mem_range.mpr hj)
    simp at this
  | some k =>
    have h3 := List.find?_some hf
    have h4 := List.mem_range.mp (List.mem_of_find?_eq_some hf)
    simp only [beq_iff_eq] at h3
    rw [hinj k j h4 hj h3]
/-- all that the start gives -/
def zB_ok (s : State) (b L : Nat) (xs : Nat → Int32) (g : zG) (w0 : hG) (z ci : Nat → Nat) : Prop :=
  zWf g ∧ (∀ r ∈ znc, r ∈ zg_c g) ∧ (∀ q ∈ zji, q ∈ zg_f g) ∧ zT g s ∧ zw_P (zg_D g) (zg_A g) (zg_cl g) w0.1 s.heap ∧ zg_n g = s.heap.size ∧ hFix g w0 ∧ hCon g w0 z ∧ (∀ a : Nat, zg_n g ≤ a → w0.1 a = none) ∧
  (∀ j : Nat, j < 256 → ci j < zg_n g ∧ w0.1 (ci j) = some (.inr (19, [iv ((j : Int) - 128)]))) ∧ hCache g w0 (fun _ i => ci i) S0 ∧ w0.1 b = some (.inl (8, L, .inl xs)) ∧ b < zg_n g
theorem zB_start {args : Array Value} {s : State} {b L : Nat} {xs : Nat → Int32} (hts : ∀ w ∈ lw_tbl, w.before args s = true) (hgv : (Jvm.Cond.and given_1 narrow_1).before args s = true) (hX : va_X b L xs s s.heap) : ∃ (g : zG) (w0 : hG) (z ci : Nat → Nat), zB_ok s b L xs g w0 z ci := by
  have hs := flat_of_before _ hgv
  obtain ⟨c1, b1, b2, b3⟩ := zB_script hX
  obtain ⟨E, c2, e1, e2, e3, e4, e5⟩ := zB_empty hgv
  obtain ⟨A, c3, ci, a1, a2, a3, a4, a5, a6⟩ := zB_cache hgv
  obtain ⟨dC, dI, hc⟩ := zK_cls hts
  obtain ⟨dA, d7, d8, hd⟩ := zK_tys hts c3.cls c1.cls
  obtain ⟨z, z1, z2, z3, z4, z5⟩ := zK_con hts hgv
  obtain ⟨mi, hmi⟩ := va_Mi.of (hs (Cond.isRef (.mirror "[Ljava/lang/Object;")) (by decide +kernel))
  have hbE : b ≠ E := zB_ne b1 e2 b2 e3 (by decide)
  have hbA : b ≠ A := zB_ne b1 a2 b2 a3 (by decide)
  have hEA : E ≠ A := zB_ne e2 a2 e3 a3 (by decide)
  have hlb : b < s.heap.size := (Array.getElem?_eq_some_iff.mp b1).1
  have hlE : E < s.heap.size := (Array.getElem?_eq_some_iff.mp e2).1
  have hlA : A < s.heap.size := (Array.getElem?_eq_some_iff.mp a2).1
  have hdE : c2.cls = dA 1 := by
    obtain ⟨k, comp, r1, r2, r3, r4⟩ := (hd 1 _ rfl).2
    have hst : "[" ++ (FieldType.object "java/lang/Object").toString = "[Ljava/lang/Object;" := by decide +kernel
    rw [hst] at r4
    exact Option.some.inj (e4.symm.trans r4)
  have hI : u_Kn s "java/lang/Integer" TJ24 1 (dC 19) (dI 19) := hc 19 _ rfl
  obtain ⟨hIS, hIf, kC, hIk, hIo⟩ := hI
  have key : ∀ j : Nat, j < 256 → ∃ ce : Cell, s.heap[ci j]? = some ce ∧ ce.cls = dC 19 ∧ (ce.vm ≠ .unknown ∧ ∀ k, ce.vm ≠ .statics k) ∧ ce.slots[dI 19 0]? = some (iv ((j : Int) - 128)) := by
    intro j hj
    obtain ⟨ce, q1, q2, q3, -⟩ := a5 j hj
    obtain ⟨cf, k, i, f, ce2, r1, r2, r3, r4, r5, -⟩ := a6 j hj
    cases Option.some.inj (q1.symm.trans r3)
    obtain ⟨cf', kf, fi, f', hi, hsl⟩ := hIS 0 (by decide)
    have e := Option.some.inj (r1.symm.trans hi)
    have ef : f = f' := congrArg (fun q => q.2.2.2) e
    refine ⟨ce, q1, Option.some.inj (q3.symm.trans hIf), ⟨r4, zB_nst q2⟩, ?_⟩
    rw [← hsl, ← ef, r5]
    exact congrArg some (vb_c_iv j hj)
  have hcl : ∀ j : Nat, j < 256 → ci j < s.heap.size := fun j hj => by
    obtain ⟨ce, k1, -⟩ := key j hj
    exact (Array.getElem?_eq_some_iff.mp k1).1
  have hno : ∀ (x : Nat) (ce : Cell) (t : FieldType), s.heap[x]? = some ce → s.isArrayOf ce t → ∀ j : Nat, j < 256 → ci j ≠ x := by
    intro x ce t h1 h2 j hj e
    obtain ⟨ce', k1, k2, -⟩ := key j hj
    rw [e] at k1
    cases Option.some.inj (h1.symm.trans k1)
    obtain ⟨-, q1, q2, cm, q3⟩ := h2
    rw [k2] at q2
    cases Option.some.inj (q2.symm.trans hIk)
    rw [hIo] at q3
    cases q3
  have hinj : ∀ i j : Nat, i < 256 → j < 256 → ci i = ci j → i = j := by
    intro i j hi hj e
    obtain ⟨c5, k1, -, -, k5⟩ := key i hi
    obtain ⟨c6, l1, -, -, l5⟩ := key j hj
    rw [e] at k1
    cases Option.some.inj (k1.symm.trans l1)
    have h1 := Option.some.inj (k5.symm.trans l5)
    have h2 : Int32.ofInt ((i : Int) - 128) = Int32.ofInt ((j : Int) - 128) := Value.int.inj h1
    have := (I_eq ⟨by omega, by omega⟩ ⟨by omega, by omega⟩).mp h2
    omega
  have wb : zB_w b L xs E A ci b = some (.inl (8, L, .inl xs)) := if_pos rfl
  have wE : zB_w b L xs E A ci E = some (wArr 0 (fun _ => none)) := by
    unfold zB_w
    rw [if_neg (Ne.symm hbE), if_pos rfl]
  have wA : zB_w b L xs E A ci A = some (.inl (7, 256, .inr (.inr (.inr (.inr (fun j => some (ci j))))))) := by
    unfold zB_w
    rw [if_neg (Ne.symm hbA), if_neg (Ne.symm hEA), if_pos rfl]
  have wI : ∀ j : Nat, j < 256 → zB_w b L xs E A ci (ci j) = some (.inr (19, [iv ((j : Int) - 128)])) := by
    intro j hj
    unfold zB_w
    rw [if_neg (hno b c1 _ b1 b2 j hj), if_neg (hno E c2 _ e2 e3 j hj), if_neg (hno A c3 _ a2 a3 j hj), zB_find hinj hj]
    rfl
  have wX : ∀ (a : Nat) (x : va_E), zB_w b L xs E A ci a = some x → a = b ∨ a = E ∨ a = A ∨ ∃ j : Nat, j < 256 ∧ a = ci j := by
    intro a x h
    by_cases h1 : a = b
    · exact Or.inl h1
    · by_cases h2 : a = E
      · exact Or.inr (Or.inl h2)
      · by_cases h3 : a = A
        · exact Or.inr (Or.inr (Or.inl h3))
        · unfold zB_w at h
          rw [if_neg h1, if_neg h2, if_neg h3] at h
          cases hf : (List.range 256).find? (fun j => ci j == a) with
          | none => rw [hf] at h; cases h
          | some j =>
            have h4 := List.find?_some hf
            have h5 := List.mem_range.mp (List.mem_of_find?_eq_some hf)
            simp only [beq_iff_eq] at h4
            exact Or.inr (Or.inr (Or.inr ⟨j, h5, h4.symm⟩))
  have hP : zw_P (zg_D (gStart s.heap.size dC dI dA z E A mi)) dA zcl (zB_w b L xs E A ci) s.heap := by
    intro a x hx
    rcases wX a x hx with rfl | rfl | rfl | ⟨j, hj, rfl⟩
    · cases Option.some.inj (wb.symm.trans hx)
      exact ⟨c1, b1, by
        show zy_like c1 (vp_cell (dA 8) (L, .inl xs))
        rw [d8]
        exact b3⟩
    · cases Option.some.inj (wE.symm.trans hx)
      exact ⟨c2, e2, by
        show zy_like c2 (vp_cell (dA 1) (0, .inr (.inr (.inr (.inr (fun _ => none))))))
        rw [← hdE]
        exact e5⟩
    · cases Option.some.inj (wA.symm.trans hx)
      exact ⟨c3, a2, by
        show zy_like c3 (vp_cell (dA 7) (256, .inr (.inr (.inr (.inr (fun j => some (ci j)))))))
        rw [d7]
        exact a4⟩
    · cases Option.some.inj ((wI j hj).symm.trans hx)
      obtain ⟨ce, k1, k2, k3, k4⟩ := key j hj
      refine Or.inr ⟨hcl j hj, (RJ24, TJ24, 1), ce, rfl, k1, k2, k3, fun k hk => ?_⟩
      obtain rfl : k = 0 := by
        have hk : k < 1 := hk
        omega
      exact k4
  have hZ : ∀ i : Nat, i < 11 → ∃ nm : String, nm ≠ "[Ljava/lang/Object;" ∧ nm ≠ "java/lang/Integer" ∧ va_O nm (z i) (fun q => s.heap.size ≤ q) s s.heap := by
    intro i hi
    match i, hi with
    | 0, _ => exact ⟨"Foundrymark$Stage", by decide, by decide, z4 ("Foundrymark$Stage", z 0) (List.mem_of_getElem? (i := 0) rfl)⟩
    | 1, _ => exact ⟨"Foundrymark$Stage", by decide, by decide, z4 ("Foundrymark$Stage", z 1) (List.mem_of_getElem? (i := 1) rfl)⟩
    | 2, _ => exact ⟨"Foundrymark$Stage", by decide, by decide, z4 ("Foundrymark$Stage", z 2) (List.mem_of_getElem? (i := 2) rfl)⟩
    | 3, _ => exact ⟨"Foundrymark$Stage", by decide, by decide, z4 ("Foundrymark$Stage", z 3) (List.mem_of_getElem? (i := 3) rfl)⟩
    | 4, _ => exact ⟨"Foundrymark$Stage", by decide, by decide, z4 ("Foundrymark$Stage", z 4) (List.mem_of_getElem? (i := 4) rfl)⟩
    | 5, _ => exact ⟨"Foundrymark$Stage", by decide, by decide, z4 ("Foundrymark$Stage", z 5) (List.mem_of_getElem? (i := 5) rfl)⟩
    | 6, _ => exact ⟨"Foundrymark$Rule$1", by decide, by decide, z4 ("Foundrymark$Rule$1", z 6) (List.mem_of_getElem? (i := 6) rfl)⟩
    | 7, _ => exact ⟨"Foundrymark$Rule$2", by decide, by decide, z4 ("Foundrymark$Rule$2", z 7) (List.mem_of_getElem? (i := 7) rfl)⟩
    | 8, _ => exact ⟨"Foundrymark$Rule$3", by decide, by decide, z4 ("Foundrymark$Rule$3", z 8) (List.mem_of_getElem? (i := 8) rfl)⟩
    | 9, _ => exact ⟨"java/lang/Boolean", by decide, by decide, z4 ("java/lang/Boolean", z 9) (List.mem_of_getElem? (i := 9) rfl)⟩
    | 10, _ => exact ⟨"java/lang/Boolean", by decide, by decide, z4 ("java/lang/Boolean", z 10) (List.mem_of_getElem? (i := 10) rfl)⟩
  have hzc : ∀ i : Nat, i < 11 → zcst (zB_w b L xs E A ci (z i)) := by
    intro i hi
    obtain ⟨nm, n1, n2, ce, o1, o2, o3, -⟩ := hZ i hi
    have hnm : ∀ (nm2 : String) (c : ClassId), s.vm.findClass nm2 = some c → c = ce.cls → nm = nm2 := by
      intro nm2 c k1 k2
      rw [k2] at k1
      obtain ⟨q1, r1, r2⟩ := Vm.findClass_spec o3
      obtain ⟨q2, r3, r4⟩ := Vm.findClass_spec k1
      cases Option.some.inj (r1.symm.trans r3)
      exact r2.symm.trans r4
    cases hw : zB_w b L xs E A ci (z i) with
    | none => exact Or.inl rfl
    | some x =>
      rcases wX _ x hw with q | q | q | ⟨j, hj, q⟩
      · rw [q, wb] at hw
        cases Option.some.inj hw
        exact Or.inr ⟨8, _, rfl, by decide⟩
      · exfalso
        rw [q] at o1
        cases Option.some.inj (e2.symm.trans o1)
        exact n1 (hnm _ _ e4 rfl)
      · rw [q, wA] at hw
        cases Option.some.inj hw
        exact Or.inr ⟨7, _, rfl, by decide⟩
      · exfalso
        rw [q] at o1
        obtain ⟨ce', k1, k2, -⟩ := key j hj
        cases Option.some.inj (k1.symm.trans o1)
        exact n2 (hnm _ _ hIf k2.symm)
  refine ⟨gStart s.heap.size dC dI dA z E A mi, (zB_w b L xs E A ci, E), z, ci, gS_wf, gS_nc, fun q hq => hq, ?_, hP, rfl, ?_, gS_con z1 hzc z5, ?_, fun j hj => ⟨hcl j hj, wI j hj⟩, ?_, wb, hlb⟩
  · refine ⟨gS_K hc hd, gS_E hts hgv, gS_S hts hgv e1 a1 z2, z3, gS_N hts hgv hmi ?_ ?_ z4⟩
    · rw [d7]
      exact zB_arr a3
    · rw [d8]
      exact zB_arr b2
  · refine ⟨?_, hlE, wE, rfl⟩
    intro r hr
    have hr : r ∈ zkC z := hr
    obtain ⟨ce, q1, -⟩ := z4 r hr
    exact (Array.getElem?_eq_some_iff.mp q1).1
  · intro a ha
    have ha : s.heap.size ≤ a := ha
    cases hw : zB_w b L xs E A ci a with
    | none => exact hw
    | some x =>
      rcases wX a x hw with rfl | rfl | rfl | ⟨j, hj, rfl⟩
      · omega
      · omega
      · omega
      · have := hcl j hj
        omega
  · exact hCache0 ci rfl rfl hlA wA (by decide) (by decide) (fun j hj => ⟨rfl, hcl j hj⟩)
