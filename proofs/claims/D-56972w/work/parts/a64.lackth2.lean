/-! Throwable.<init>(String, Throwable): its contract on a fresh Lack -/
set_option maxRecDepth 100000
section ZLT2
theorem zk_seta {H : Heap} {a : Nat} {x y : Cell} (h : H[a]? = some y) : (H.setIfInBounds a x)[a]? = some x := by
  have hlt : a < H.size := (Array.getElem?_eq_some_iff.mp h).1
  rw [Array.getElem?_setIfInBounds, if_pos rfl, if_pos hlt]
theorem zk_setb {H : Heap} {a q : Nat} {x : Cell} (h : q ≠ a) : (H.setIfInBounds a x)[q]? = H[q]? := by
  rw [Array.getElem?_setIfInBounds, if_neg (fun e => h e.symm)]
theorem zk_vaS {A : Nat → Prop} {H0 H : Heap} {locs : List Loc} {a i : Nat} {x : Cell} (hS : va_S A H0 H locs) (ha : A a) : va_S A H0 (H.setIfInBounds a x) (locs ++ [⟨a, i⟩]) := by
  refine ⟨by rw [Array.size_setIfInBounds]; exact hS.1, fun q h1 h2 => (zk_setb (fun e => h2 (by rw [e]; exact ha))).trans (hS.2.1 q h1 h2), fun y hy => ?_⟩
  rcases List.mem_append.mp hy with h | h
  · exact hS.2.2 y h
  · rw [List.mem_singleton.mp h]
    exact ha
set_option maxHeartbeats 8000000 in
theorem zk_thMet {g : zG} {l : Launch} {a : Nat} (hl : l.stackTraces = false) : vx_Met l zkTh (ws_ zkTh prog_43_method_3_code 3 none) ({ frames := 3, cells := 0, slots := 0, locals := 42 } : Room) (va_Pc [.ref a, .null, .null] (zkB g a)) (zkQc a) (fun _ _ _ => False) 0 0 (zA g) := by
  refine vx_ofW (cc := prog_43_method_3_code) (maxL := 3) (ret := none) (by decide) rfl (fun p e s m args below meth c s₁ B hml htab hv => ?_)
  obtain ⟨rfl, hT, hna, cell, kX, hcell, hvm, hmon, hfound, hk, hord, hsz, hback⟩ := hv
  have hts : ∀ w ∈ lw_all, w.before _ s = true := fun w h => atoms_spec (ws := ws_ zkTh prog_43_method_3_code 3 none) B.pre w (List.mem_cons_of_mem _ h)
  have hE := hT.2.1
  obtain ⟨hU, hN, hMi, hKk⟩ := hT.2.2.2.2
  have hown : s.vm.findClass Bundle.tN = some m.cls := findClass_of_methodNamed B.named
  have hinit : meth.name = "<init>" := (name_of_methodNamed B.named B.method).1
  have htr : e.platform.stackTraces = false := (show e.platform.stackTraces = l.stackTraces by rw [B.admits.platform]).trans hl
  have howns : e.platform.frameOwnsMonitors = true := by rw [B.admits.platform]
  have hfin : e.platform.finalization = false := by rw [B.admits.platform]
  have hpl : e.platform.magicAccessors = ({} : Platform).magicAccessors := by rw [B.admits.platform]
  have h0 : ∀ w ∈ Bundle.ownAtoms0 "Foundrymark" 3 "java/lang/IndexOutOfBoundsException" ["java/lang/RuntimeException", "java/lang/Exception"], w.before _ s = true :=
    vx_own (ze0_g.2.2.2.2 g _ s hts hE) (vx_isRefq hU.1) (vx_isRefq hN.1) hU.2.word hN.2.word
  obtain ⟨T, Z0, L, -, Y⟩ := ThrowableC.of_atoms howns hfin hpl (fun x hx => h0 x (by simp [Bundle.ownAtoms0, hx]))
  have hmc : m.cls = T.cT := Option.some.inj (hown.symm.trans Y.found)
  have hsel0 : selectMethod e.platform s.vm cell.cls T.fill0 = .method T.fill0 := by
    obtain ⟨c2, r2, m2, q1, q2, q3, q4, -⟩ := Cond.selects_spec (hts _ q1083)
    cases Option.some.inj (q1.symm.trans hfound)
    cases Option.some.inj (q2.symm.trans (State.methodFound?_of_named Y.fill0 (by decide)))
    cases Option.some.inj (q3.symm.trans Y.fill0)
    rw [Launch.admits_selectMethod B.admits]; exact q4
  obtain ⟨u0, hZu⟩ : ∃ u0 : RefV, va_Z Bundle.tN "UNASSIGNED_STACK" Bundle.steD u0.v (zA g) s s.heap := by
    rcases hU.1 with h | ⟨t, h⟩
    · exact ⟨⟨.null, rfl⟩, h⟩
    · exact ⟨⟨.ref t, rfl⟩, h⟩
  obtain ⟨sen, hZs⟩ : ∃ u0 : RefV, va_Z Bundle.tN "SUPPRESSED_SENTINEL" Bundle.listD u0.v (zA g) s s.heap := by
    rcases hN.1 with h | ⟨t, h⟩
    · exact ⟨⟨.null, rfl⟩, h⟩
    · exact ⟨⟨.ref t, rfl⟩, h⟩
  obtain ⟨cf, kf, fi, fU, aU, cellS, gU, -, -, hsU, hcS, hisS, hvU, hnA⟩ := id hZu
  cases gU.symm.trans Y.unassigned
  cases Option.some.inj (hsU.symm.trans L.statics)
  have hneS : T.aS ≠ a := fun q => hnA (by rw [q]; exact hna)
  have hknS : cellS.vm ≠ .unknown := fun q => by rw [q] at hisS; cases hisS
  obtain ⟨ci198, i198, fB, hk198, hg198, ha198, hsB, -, hnB, htB, hffB⟩ := Cond.ownField (t := .object "java/lang/Object") Y.found L.cls (by decide +kernel) (hts _ q256) (hts _ q255) e.platform hpl
  obtain ⟨iM, hffM⟩ := Y.msg
  obtain ⟨tyC, dC, hdC, hdnC⟩ := Cond.laysAt hfound hk Y.cause (hts _ q1084)
  obtain ⟨tyS, dS, hdS, hdnS⟩ := Cond.laysAt hfound hk Y.stack (hts _ q1085)
  obtain ⟨tyP, dP, hdP, hdnP⟩ := Cond.laysAt hfound hk Y.supp (hts _ q1086)
  obtain ⟨tyM, dM, hdM, hdnM⟩ := Cond.laysAt hfound hk hffM (hts _ q1087)
  obtain ⟨tyB, dB, hdB, hdnB⟩ := Cond.laysAt hfound hk hffB (hts _ q1088)
  have bC := Cond.laysApart hdB hdC hdnB hdnC (by rw [hnB, Y.causeName]; decide)
  have bS := Cond.laysApart hdB hdS hdnB hdnS (by rw [hnB, Y.stackName]; decide)
  have bP := Cond.laysApart hdB hdP hdnB hdnP (by rw [hnB, Y.suppName]; decide)
  have sP := Cond.laysApart hdS hdP hdnS hdnP (by rw [Y.stackName, Y.suppName]; decide)
  have tk : ∀ {f : Field} {v : Value} {C : Cell}, kX.instanceTypes[f.slot]? = some f.type → fits f.type v = true → C.cls = cell.cls → C.vm = .none → C.slots.size = cell.slots.size → Jvm.Takes s C f v := fun {f v C} h1 h2 h3 h4 h5 => by
    obtain ⟨q1, q2⟩ := Takes.of_laid (v := v) hk hord h1 h2
    exact ⟨by rw [h5, hsz]; simpa using q1, by rw [h3, h4]; exact q2⟩
  have fC : ∀ u : RefV, fits T.fCause.type u.v = true := fun u => by rw [Y.causeType]; exact fits_refV_object _ u
  have fM : ∀ u : RefV, fits T.fMsg.type u.v = true := fun u => by rw [Y.msgType]; exact fits_refV_object _ u
  have fS : fits T.fStack.type u0.v = true := by rw [Y.stackType]; exact fits_refV_array _ u0
  have fP : fits T.fSupp.type sen.v = true := by rw [Y.suppType]; exact fits_refV_object _ sen
  have hA : zA g a := hna
  refine vx_ret ?_
  rw [lg_entry_eq]
  have hv0 := lv_entry (n := 3) [Value.ref a, .null, .null] (Nat.le_of_ble_eq_true rfl)
  generalize ((lg_sl [Value.ref a, .null, .null] ++ List.replicate (3 - (lg_sl [Value.ref a, .null, .null]).length) Slot.unset).toArray) = ls0 at hv0 ⊢
  refine zp_ok (f := (1, _, [.ref a])) B.exec B.bytes rfl dJ7_init_3_0 hv0 (fun ls1 hv1 => ?_)
  refine W.objInit B.exec B.bytes hown (hts _ q260) (hts _ q96) (hts _ q97) (g := F0 m 1 ls1 [.ref a]) rfl (hv1.1.trans hml.symm) (rest := []) rfl dJ7_init_3_1 (by show 1 ≤ 3; decide) (by show 2 * 0 + 0 + 12 ≤ 42; decide) ?_
  refine zp_ok (pc := 4) (st := []) (f := (5, _, [.ref a])) B.exec B.bytes rfl dJ7_init_3_4 hv1 (fun ls2 hv2 => ?_)
  refine zp_ok (f := (6, _, [.ref a, .ref a])) B.exec B.bytes rfl dJ7_init_3_5 hv2 (fun ls3 hv3 => ?_)
  have t1 := tk tyC (fC ⟨.ref a, rfl⟩) (C := cell) rfl hvm rfl
  refine W.putf B.exec B.bytes hown (hts _ q293) Y.cause L.causeInstance (Or.inr ⟨hmc, hinit⟩) (a := a) (cell := cell) (v := .ref a) hcell (by rw [hvm]; simp) t1.1 (narrow_isRef _ rfl) t1.2 (g := F0 m 6 ls3 [.ref a, .ref a]) rfl (rest := []) rfl dJ7_init_3_6 ?_
  have S1 := zk_vaS (x := cell.setSlot T.fCause.slot (.ref a)) (i := T.fCause.slot) (va_S.rf (A := zA g) (H0 := s.heap)) hA
  have c1 := zk_seta (x := cell.setSlot T.fCause.slot (.ref a)) hcell
  generalize hH1 : s.heap.setIfInBounds a (cell.setSlot T.fCause.slot (.ref a)) = H1 at S1 c1 ⊢
  refine zp_ok (pc := 9) (st := []) (f := (10, _, [.ref a])) B.exec B.bytes rfl dJ7_init_3_9 hv3 (fun ls4 hv4 => ?_)
  refine va_gets B.exec B.bytes hZu S1 hown (hts _ q261) (fun _ h => h) dJ7_init_3_10 ?_
  have t3 := tk tyS fS (C := cell.setSlot T.fCause.slot (.ref a)) rfl hvm (by simp [Cell.setSlot])
  refine W.putf B.exec B.bytes hown (hts _ q294) Y.stack L.stackInstance (Or.inr ⟨hmc, hinit⟩) (a := a) (cell := cell.setSlot T.fCause.slot (.ref a)) (v := u0.v) c1 (by show cell.vm ≠ _; rw [hvm]; simp) t3.1 (narrow_isRef _ u0.ok) t3.2 (g := F0 m 13 ls4 [u0.v, .ref a]) rfl (rest := []) rfl dJ7_init_3_13 ?_
  have S2 := zk_vaS (x := (cell.setSlot T.fCause.slot (.ref a)).setSlot T.fStack.slot u0.v) (i := T.fStack.slot) S1 hA
  have c2 := zk_seta (x := (cell.setSlot T.fCause.slot (.ref a)).setSlot T.fStack.slot u0.v) c1
  generalize hH2 : H1.setIfInBounds a ((cell.setSlot T.fCause.slot (.ref a)).setSlot T.fStack.slot u0.v) = H2 at S2 c2 ⊢
  refine zp_ok (pc := 16) (st := []) (f := (17, _, [.ref a])) B.exec B.bytes rfl dJ7_init_3_16 hv4 (fun ls5 hv5 => ?_)
  refine va_gets B.exec B.bytes hZs S2 hown (hts _ q263) (fun _ h => h) dJ7_init_3_17 ?_
  have t5 := tk tyP fP (C := (cell.setSlot T.fCause.slot (.ref a)).setSlot T.fStack.slot u0.v) rfl hvm (by simp [Cell.setSlot])
  refine W.putf B.exec B.bytes hown (hts _ q295) Y.supp L.suppInstance (Or.inr ⟨hmc, hinit⟩) (a := a) (cell := (cell.setSlot T.fCause.slot (.ref a)).setSlot T.fStack.slot u0.v) (v := sen.v) c2 (by show cell.vm ≠ _; rw [hvm]; simp) t5.1 (narrow_isRef _ sen.ok) t5.2 (g := F0 m 20 ls5 [sen.v, .ref a]) rfl (rest := []) rfl dJ7_init_3_20 ?_
  have S3 := zk_vaS (x := ((cell.setSlot T.fCause.slot (.ref a)).setSlot T.fStack.slot u0.v).setSlot T.fSupp.slot sen.v) (i := T.fSupp.slot) S2 hA
  have c3 := zk_seta (x := ((cell.setSlot T.fCause.slot (.ref a)).setSlot T.fStack.slot u0.v).setSlot T.fSupp.slot sen.v) c2
  generalize hH3 : H2.setIfInBounds a (((cell.setSlot T.fCause.slot (.ref a)).setSlot T.fStack.slot u0.v).setSlot T.fSupp.slot sen.v) = H3 at S3 c3 ⊢
  have lS : T.fStack.slot < cell.slots.size := by have := t3.1; simpa [Cell.setSlot] using this
  have c5S : (((cell.setSlot T.fCause.slot (.ref a)).setSlot T.fStack.slot u0.v).setSlot T.fSupp.slot sen.v).slots[T.fStack.slot]? = some u0.v := by
    simp [Cell.setSlot, Array.getElem?_setIfInBounds, sP, Ne.symm sP, lS]
  have c5B : (((cell.setSlot T.fCause.slot (.ref a)).setSlot T.fStack.slot u0.v).setSlot T.fSupp.slot sen.v).slots[fB.slot]? = some .null := by
    have := hback _ _ _ _ hffB
    simpa [Cell.setSlot, Array.getElem?_setIfInBounds, bC, bS, bP, bC.symm, bS.symm, bP.symm] using this
  have t6 := tk tyS fS (C := ((cell.setSlot T.fCause.slot (.ref a)).setSlot T.fStack.slot u0.v).setSlot T.fSupp.slot sen.v) rfl hvm (by simp [Cell.setSlot])
  have c5sz : (((cell.setSlot T.fCause.slot (.ref a)).setSlot T.fStack.slot u0.v).setSlot T.fSupp.slot sen.v).slots.size = cell.slots.size := by simp [Cell.setSlot]
  have c5vm : (((cell.setSlot T.fCause.slot (.ref a)).setSlot T.fStack.slot u0.v).setSlot T.fSupp.slot sen.v).vm = .none := hvm
  have c5mon : (((cell.setSlot T.fCause.slot (.ref a)).setSlot T.fStack.slot u0.v).setSlot T.fSupp.slot sen.v).monitor = {} := hmon
  have c5cls : (((cell.setSlot T.fCause.slot (.ref a)).setSlot T.fStack.slot u0.v).setSlot T.fSupp.slot sen.v).cls = cell.cls := rfl
  have sz3 : H3.size = s.heap.size := by rw [← hH3, ← hH2, ← hH1, Array.size_setIfInBounds, Array.size_setIfInBounds, Array.size_setIfInBounds]
  have ot3 : ∀ q : Nat, q ≠ a → H3[q]? = s.heap[q]? := fun q hq => by rw [← hH3, zk_setb hq, ← hH2, zk_setb hq, ← hH1, zk_setb hq]
  generalize ((cell.setSlot T.fCause.slot (.ref a)).setSlot T.fStack.slot u0.v).setSlot T.fSupp.slot sen.v = C5 at c3 c5S c5B t6 c5sz c5vm c5mon c5cls
  clear hH1 hH2 hH3 S1 S2 c1 c2 t1 t3 t5
  refine zp_ok (pc := 23) (st := []) (f := (24, _, [.ref a])) B.exec B.bytes rfl dJ7_init_3_23 hv5 (fun ls6 hv6 => ?_)
  have hdecl : (Cond.declares Bundle.tFill).before #[Value.ref a, .null, .null] s = true := by
    obtain ⟨mk, mt, g1, g2, g3, -⟩ := Cond.instanceMethod_spec (hts _ q266)
    obtain ⟨mt2, c2, k1, -, -, -, -, -, -, k2⟩ := Cond.codeSync_spec g1 (hts _ q275)
    cases Option.some.inj (k1.symm.trans g2)
    have g1' : s.methodNamed? Bundle.tFill = some mk := g1
    have k2' : parseMethodDescriptor Bundle.tFill.desc = some mt.sig := k2
    show (Cond.declares Bundle.tFill).holds _ s none s [] = true
    simp only [Cond.holds, Cond.value, g1', Option.bind_some, g2, Option.map_some, g3, k2']
    simp
  have hSE : (Cond.selects zkL Bundle.tFill Bundle.tFill).before #[Value.ref a, .null, .null] s = true := hts _ q268
  refine W.of (H' := H3) (locs' := [] ++ [⟨a, T.fCause.slot⟩] ++ [⟨a, T.fStack.slot⟩] ++ [⟨a, T.fSupp.slot⟩]) (cells' := 0) (slots' := 0) (g2 := F0 m 27 ls6 [.ref a]) (fun T9 hT9 X9 => ?_) ?_
  · obtain ⟨v6, vm6, ⟨T6, L6, n6, k6⟩, hW6, X6, ⟨hv6', hh6, hL6, hc6, hn6⟩, come⟩ := X9.virtualBack B.exec (own := Bundle.tN) (C := zkL) (index := 27) (y := Bundle.tFill) (z := Bundle.tFill) hown (hts _ q265) hdecl (notFace_of_selects hSE) hSE (hts _ q266) (by decide)
      (zk_fillOff (l := l) (W := 0) B.exec htr T L Y.fill (u0 := u0) (self := a) (cell := C5) (cellS := cellS) (fun _ => by rw [c5vm]; simp) (by rw [c5vm]; simp) (by rw [c5mon]) (by rw [c5mon]) c5S (by rw [c5cls]; exact hsel0) hneS hknS hvU t6 ⟨{ ci198 := ci198, i198 := i198, fBack := fB }, ⟨hk198, hg198, ha198, hsB⟩, c5B⟩ (by show 2 < 3; decide) (by show 0 + 42 ≤ 42; decide))
      (b := a) (cB := cell.cls) hfound ⟨C5, by rw [hT9]; exact c3, c5cls, by rw [c5vm]; rfl⟩ (g := F0 m 24 ls6 [.ref a]) rfl (hv6.1.trans hml.symm) (Steps.refl _) (argsL := []) (rest := [])
      (fun sig h => by rw [show parseMethodDescriptor Bundle.tFill.desc = some ⟨[], some (.object Bundle.tN)⟩ from by decide +kernel] at h; rw [← Option.some.inj h]; rfl) rfl (by show 2 * 0 + 0 ≤ 0; decide) (by rw [B.bytes]; exact dJ7_init_3_24)
      (fun vmx hWx => ⟨rfl, by show T9.heap[a]? = _; rw [hT9]; exact c3, by show T9.heap[T.aS]? = _; rw [hT9]; exact (ot3 _ hneS).trans hcS⟩)
    dsimp only [Pt.U, Pt.locs, Pt.cells, Pt.slots] at X6 hh6 hL6 hc6 hn6 come
    subst hv6' hL6 hc6 hn6
    exact ⟨T6, hh6.trans hT9, X6, fun tg h => come.trans h⟩
  refine zp_ok (pc := 27) (st := [.ref a]) (f := (28, _, [])) B.exec B.bytes rfl dJ7_init_3_27 hv6 (fun ls7 hv7 => ?_)
  refine zp_ok (f := (29, _, [.ref a])) B.exec B.bytes rfl dJ7_init_3_28 hv7 (fun ls8 hv8 => ?_)
  refine zp_ok (f := (30, _, [.null, .ref a])) B.exec B.bytes rfl dJ7_init_3_29 hv8 (fun ls9 hv9 => ?_)
  have t7 := tk tyM (fM ⟨.null, rfl⟩) (C := C5) c5cls c5vm c5sz
  refine W.putf B.exec B.bytes hown (hts _ q292) hffM L.msgInstance (Or.inr ⟨hmc, hinit⟩) (a := a) (cell := C5) (v := .null) c3 (by rw [c5vm]; simp) t7.1 (narrow_isRef _ rfl) t7.2 (g := F0 m 30 ls9 [.null, .ref a]) rfl (rest := []) rfl dJ7_init_3_30 ?_
  have S4 := zk_vaS (x := C5.setSlot T.fMsg.slot .null) (i := T.fMsg.slot) S3 hA
  have c4 := zk_seta (x := C5.setSlot T.fMsg.slot .null) c3
  have sz4 : (H3.setIfInBounds a (C5.setSlot T.fMsg.slot .null)).size = s.heap.size := by rw [Array.size_setIfInBounds]; exact sz3
  have ot4 : ∀ q : Nat, q ≠ a → (H3.setIfInBounds a (C5.setSlot T.fMsg.slot .null))[q]? = s.heap[q]? := fun q hq => by rw [zk_setb hq]; exact ot3 q hq
  generalize H3.setIfInBounds a (C5.setSlot T.fMsg.slot .null) = H4 at S4 c4 sz4 ot4 ⊢
  refine zp_ok (pc := 33) (st := []) (f := (34, _, [.ref a])) B.exec B.bytes rfl dJ7_init_3_33 hv9 (fun lsA hvA => ?_)
  refine zp_ok (f := (35, _, [.null, .ref a])) B.exec B.bytes rfl dJ7_init_3_34 hvA (fun lsB hvB => ?_)
  have t8 := tk tyC (fC ⟨.null, rfl⟩) (C := C5.setSlot T.fMsg.slot .null) c5cls c5vm (by simp [Cell.setSlot, c5sz])
  refine W.putf B.exec B.bytes hown (hts _ q293) Y.cause L.causeInstance (Or.inr ⟨hmc, hinit⟩) (a := a) (cell := C5.setSlot T.fMsg.slot .null) (v := .null) c4 (by show C5.vm ≠ _; rw [c5vm]; simp) t8.1 (narrow_isRef _ rfl) t8.2 (g := F0 m 35 lsB [.null, .ref a]) rfl (rest := []) rfl dJ7_init_3_35 ?_
  have S5 := zk_vaS (x := (C5.setSlot T.fMsg.slot .null).setSlot T.fCause.slot .null) (i := T.fCause.slot) S4 hA
  have c6 := zk_seta (x := (C5.setSlot T.fMsg.slot .null).setSlot T.fCause.slot .null) c4
  refine W.vret (pc := 38) B.exec B.bytes B.returns (fun t ht hW => ⟨rfl, by rw [ht, Array.size_setIfInBounds]; exact sz4, fun q hq => by rw [ht, zk_setb hq]; exact ot4 q hq, cell, (C5.setSlot T.fMsg.slot .null).setSlot T.fCause.slot .null, hcell, by rw [ht]; exact c6, c5vm, c5cls⟩) S5.2.2 dJ7_init_3_38
end ZLT2
