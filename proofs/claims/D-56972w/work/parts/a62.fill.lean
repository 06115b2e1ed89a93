/-! Throwable.fillInStackTrace where no traces are kept: nothing changes -/
section ZLK
theorem zk_setSame {u : State} {a : Nat} {x : Cell} (h : u.heap[a]? = some x) : u.setCell a x = u := by
  have e : u.heap.setIfInBounds a x = u.heap := by
    refine Array.ext_getElem? fun i => ?_
    rw [Array.getElem?_setIfInBounds]
    split
    · rename_i e
      subst e
      split
      · exact h.symm
      · rename_i hh
        rw [(Array.getElem?_eq_none_iff.mpr (Nat.le_of_not_lt hh))]
    · rfl
  show ({ u with heap := u.heap.setIfInBounds a x } : State) = u
  rw [e]
theorem zk_slotSame {x : Cell} {i : Nat} {v : Value} (h : x.slots[i]? = some v) : x.setSlot i v = x := by
  have e : x.slots.setIfInBounds i v = x.slots := by
    refine Array.ext_getElem? fun j => ?_
    rw [Array.getElem?_setIfInBounds]
    split
    · rename_i e
      subst e
      split
      · exact h.symm
      · rename_i hh
        rw [(Array.getElem?_eq_none_iff.mpr (Nat.le_of_not_lt hh))]
    · rfl
  show ({ x with slots := x.slots.setIfInBounds i v } : Cell) = x
  rw [e]
set_option maxHeartbeats 4000000 in
theorem zk_fillOff {l : Launch} {R : Room} {p : Program} {e : Env} {below : List Frame} {s : State} {sargs : Array Value} {len W : Nat} (hexec : p.tables.exec = Jvm.exec) (htr : e.platform.stackTraces = false)
    (T : ThrowableC) (L : T.Links e.platform s) (hfillN : s.methodNamed? Bundle.tFill = some T.fill) {u0 : RefV} {self : Addr} {cell cellS : Cell}
    (hobj : ∀ k, cell.vm ≠ .statics k) (hknown : cell.vm ≠ .unknown) (hfree : cell.monitor.owner = none) (hcount : cell.monitor.count = 0)
    (hvS : cell.slots[T.fStack.slot]? = some u0.v) (hsel0 : selectMethod e.platform s.vm cell.cls T.fill0 = .method T.fill0)
    (hneS : T.aS ≠ self) (hknownS : cellS.vm ≠ .unknown) (hvU : cellS.slots[T.fUnassigned.slot]? = some u0.v) (htS : Jvm.Takes s cell T.fStack u0.v)
    (hback : ∃ B : BackC, B.Links T e.platform s ∧ cell.slots[B.fBack.slot]? = some .null) (hRframes : 2 < R.frames) (hRlocals : W + 42 ≤ R.locals) :
    Back l R p e below s sargs Bundle.tFill len W (fun A a => a = #[.ref self] ∧ A.U.heap[self]? = some cell ∧ A.U.heap[T.aS]? = some cellS)
      (fun A _ v B => v = some (.ref self) ∧ B.U.heap = A.U.heap ∧ B.locs = A.locs ∧ B.cells = A.cells ∧ B.slots = A.slots) := by
  intro m meth c A g ig mk a X hg hsize hdg hWd hmk hPre
  obtain ⟨T', locs, cells, slots⟩ := A
  obtain ⟨ha, hcell, hcellS⟩ := hPre
  dsimp only [Pt.U, Pt.locs, Pt.cells, Pt.slots] at X hmk hcell hcellS ⊢
  subst ha
  have e1 : T'.methodNamed? Bundle.tFill = s.methodNamed? Bundle.tFill := by
    rw [State.methodNamed?_of_vm (U := T') (V := s.setVm T'.vm) rfl]
    exact State.methodNamed?_setVm X.warmed.alike _
  obtain rfl : mk = T.fill := Option.some.inj ((hmk.symm.trans e1).trans hfillN)
  have h : At T' g.method c below := by rw [hg]; exact X.here
  have hfr' : T'.frames.length + 2 < (e.platform.stackLimits T'.me).1 := X.framesAbove hRframes
  have hwd' : (stackUse (.java g :: T'.frames.tail)).2 + 42 ≤ (e.platform.stackLimits T'.me).2 := X.stackAbove hsize (K := 42) (by omega)
  obtain ⟨g₀, hg0⟩ := Option.isSome_iff_exists.mp h.top
  obtain ⟨tl0, htl0⟩ := State.topJava?_eq_some.mp hg0
  have hlen0 : T'.frames.length = (Frame.java g :: T'.frames.tail).length := by rw [htl0]; rfl
  generalize hFr : (Frame.java g :: T'.frames.tail) = Fr at hlen0 hwd'
  have hfg : (T'.setTop g).frames = [] ++ Fr := by rw [State.frames_setTop _ htl0, ← hFr, htl0]; rfl
  have hroom : e.platform.stackFull (((T'.setTop g).threads[(T'.setTop g).cur]?).getD { frames := [] }) (T'.setTop g).frames (1 + 2) = false :=
    roomAbove (pushed := []) (base := Fr) (free := 42) (lim := e.platform.stackLimits T'.me) hfg (State.stackLimits_setTop _ h.top g) (by rw [← hlen0]; simp only [List.length_nil]; omega) hwd' (by simp only [stackUse_nil]; omega)
  have hw14 : (stackUse [Frame.java (fillJ T.fill self 16 [])]).2 = 14 := by
    rw [stackUse_java, stackUse_nil]
    simp [operandWords]
  obtain ⟨vm', hW', st⟩ := Steps.fillColdAnyV p (V := T') (g := g) (c := c) (self := self) h hexec T L X.warmed
    (Nn := fun u => u) heapOnly_id (fun _ _ => rfl) (fun _ => rfl) (fun u x y => setCell_twice _ _ _ _)
    (cell := cell) (cellS := cellS) (cN := cell.withEntry T'.cur) (u0 := u0) (ig := ig) (len := len) []
    hcell hobj hknown (Or.inl hfree) hvS hsel0 hcellS hneS hknownS hvU (fun u hu => hu) (fun u hu => hu) rfl rfl rfl rfl htS hdg
    (fun _ vm1 hW1 hAt t' hrest => by
      obtain ⟨g₁, hg1⟩ := Option.isSome_iff_exists.mp hAt.top
      obtain ⟨tl1, htl1⟩ := State.topJava?_eq_some.mp hg1
      have htail : (fillInside (T'.setVm vm1) g T.fill self cell).frames.tail = Fr := by rw [← hFr]; exact fillInside_tail (T'.setVm vm1) g T.fill self cell h.top
      have etl : tl1 = Fr := by rw [htl1] at htail; exact htail
      have htopE : ((T'.setVm vm1).setCell self (cell.withEntry (T'.setVm vm1).cur)).topJava?.isSome := h.top
      have hlimF : e.platform.stackLimits (fillInside (T'.setVm vm1) g T.fill self cell).me = e.platform.stackLimits T'.me := by
        rw [State.stackLimits_pushFrame, State.stackLimits_setTop _ htopE]; rfl
      exact L.nativeOff p htr hAt hW1 (self := self)
        (roomAbove (pushed := [.java (fillJ T.fill self 16 [])]) (base := Fr) (free := 42) (lim := e.platform.stackLimits T'.me) (by rw [State.frames_setTop _ htl1, etl]; rfl) (by rw [State.stackLimits_setTop _ hAt.top]; exact hlimF)
          (by rw [← hlen0]; simp only [List.length_cons, List.length_nil]; omega) hwd' (by rw [hw14]; decide)) hrest)
    hroom (by obtain ⟨B, LB, hvB⟩ := hback; exact ⟨B, LB, hvB, fun _ _ => rfl⟩)
  have hend : ((cell.withEntry T'.cur).setSlot T.fStack.slot u0.v).left = cell.setSlot T.fStack.slot u0.v := by
    simp only [Cell.left_setSlot, Cell.left_withEntry T'.cur hfree hcount]
  rw [hend, zk_slotSame hvS, zk_setSame (u := T'.setVm vm') hcell] at st
  exact ⟨some (.ref self), ⟨T'.setVm vm', locs, cells, slots⟩, X.noted hW', ⟨rfl, rfl, rfl, rfl, rfl⟩, st _ (Steps.refl _)⟩
end ZLK
