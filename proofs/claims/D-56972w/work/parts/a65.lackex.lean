/-! Exception.<init>(String, Throwable) and Lack.<init>(RuntimeException): their contracts on a fresh Lack -/
set_option maxRecDepth 100000
abbrev zkEx : MethodName := ⟨"java/lang/Exception", "<init>", "(Ljava/lang/String;Ljava/lang/Throwable;)V"⟩
abbrev zkLa : MethodName := ⟨"Foundrymark$Lack", "<init>", "(Ljava/lang/RuntimeException;)V"⟩
section ZLE
variable {p : Program} {l : Launch} {e : Env} {R : Room} {s : State} {m : MethodId} {args ar : Array Value} {below : List Frame} {meth : Method} {c : Code} {H H0 : Heap} {locs : List Loc} {cells slots pc : Nat} {Q : State → Prop} {ls : Array Slot} {g : zG} {a : Nat} {st0 rest : List Value}
theorem zk_go (hr : vx_Run p l e R s m args below meth c H locs cells slots 0 0 (F0 m pc ls st0) rest (zkQc a ar) (fun _ _ _ => False) (zA g)) (hS : va_S (zA g) H0 H locs) (ha : zA g a)
    (kk : ∀ (H1 : Heap) (locs1 : List Loc), H1.size = H.size → (∀ q : Nat, q ≠ a → H1[q]? = H[q]?) → (∃ c0 ce : Cell, H[a]? = some c0 ∧ H1[a]? = some ce ∧ ce.vm = .none ∧ ce.cls = c0.cls) → va_S (zA g) H0 H1 locs1 → W p l e R s m args below meth c H1 locs1 cells slots Q (F0 m (pc + 3) ls rest)) : W p l e R s m args below meth c H locs cells slots Q (F0 m pc ls st0) := by
  intro T hT X
  rcases hr T hT X with ⟨v', st₀, t, T', L, h0, X', hL, e1, e2, ⟨hv, hsz, hot, c0, ce, h3, h4, h5, h6⟩, st⟩ | ⟨q, st₀, t, T', L, E, ce, h0, X', hL, e1, e2, hx, hce, hcv, hcl, st⟩
  · obtain rfl : v' = none := by injection hv
    have hS1 : va_S (zA g) H0 T'.heap (locs ++ L) := by
      refine ⟨by rw [e1, hsz, h0]; exact hS.1, fun q q1 q2 => ?_, fun y hy => ?_⟩
      · rw [e1, hot q (fun e => q2 (by rw [e]; exact ha)), h0]
        exact hS.2.1 q q1 q2
      · rcases List.mem_append.mp hy with h | h
        · exact hS.2.2 y h
        · exact hL y h
    obtain ⟨t2, a1, b1⟩ := kk T'.heap (locs ++ L) (by rw [e1, hsz, h0]) (fun q hq => by rw [e1, hot q hq, h0]) ⟨c0, ce, by rw [← h0]; exact h3, by rw [e1]; exact h4, h5, h6⟩ hS1 T' rfl X'
    exact ⟨t2, st t2 a1, b1⟩
  · exact absurd hx (fun h => h)
/-- what a call may take for granted -/
theorem zk_preB {As : List Value} (hT : zT g s) (hna : zg_n g ≤ a) {cell : Cell} {kX : Class} (hcell : H[a]? = some cell) (hvm : cell.vm = .none) (hmon : cell.monitor = {}) (hfound : s.vm.findClass zkL = some cell.cls) (hk : s.vm.classes[cell.cls]? = some kX) (hord : kX.kind = .ordinary) (hsz : cell.slots.size = kX.instanceTypes.size)
    (hback : ∀ (c : ClassId) (k : Class) (i : Nat) (f : Field), s.fieldFound? Bundle.tN "backtrace" "Ljava/lang/Object;" = some (c, k, i, f) → cell.slots[f.slot]? = some .null) (hS : va_S (zA g) s.heap H locs) : PreS s H (va_Pc As (zkB g a)) As := by
  refine ⟨zkB.blind, fun U hU hW => ⟨rfl, zT.moved hW hS hU hT, hna, ?_⟩⟩
  obtain ⟨k', hk', he⟩ := hW.alike.2.2 _ _ hk
  refine ⟨cell, k', by rw [hU]; exact hcell, hvm, hmon, by rw [hW.alike.findClass]; exact hfound, hk', by rw [he]; exact hord, by rw [he]; exact hsz, fun c k i f hf => ?_⟩
  obtain ⟨k2, hf2, -⟩ := State.fieldFound?_setVm (s := U) (vm' := s.vm) hW.alike.symm hf
  exact hback c k2 i f hf2
theorem zk_exMet (hl : l.stackTraces = false) : vx_Met l zkEx (ws_ zkEx prog_31_method_3_code 3 none) ({ frames := 4, cells := 0, slots := 0, locals := 64 } : Room) (va_Pc [.ref a, .null, .null] (zkB g a)) (zkQc a) (fun _ _ _ => False) 0 0 (zA g) := by
  refine vx_ofW (cc := prog_31_method_3_code) (maxL := 3) (ret := none) (by decide) rfl (fun p e s m args below meth c s₁ B hml htab hv => ?_)
  obtain ⟨rfl, hT, hna, cell, kX, hcell, hvm, hmon, hfound, hk, hord, hsz, hback⟩ := hv
  have hts : ∀ w ∈ lw_all, w.before _ s = true := fun w h => atoms_spec (ws := ws_ zkEx prog_31_method_3_code 3 none) B.pre w (List.mem_cons_of_mem _ h)
  have hown : s.vm.findClass "java/lang/Exception" = some m.cls := findClass_of_methodNamed B.named
  have hA : zA g a := hna
  rw [lg_entry_eq]
  have hv0 := lv_entry (n := 3) [Value.ref a, .null, .null] (Nat.le_of_ble_eq_true rfl)
  generalize ((lg_sl [Value.ref a, .null, .null] ++ List.replicate (3 - (lg_sl [Value.ref a, .null, .null]).length) Slot.unset).toArray) = ls0 at hv0 ⊢
  refine zp_ok (f := (1, _, [.ref a])) B.exec B.bytes rfl dJ8_init_3_0 hv0 (fun ls1 hv1 => ?_)
  refine zp_ok (f := (2, _, [.null, .ref a])) B.exec B.bytes rfl dJ8_init_3_1 hv1 (fun ls2 hv2 => ?_)
  refine zp_ok (f := (3, _, [.null, .null, .ref a])) B.exec B.bytes rfl dJ8_init_3_2 hv2 (fun ls3 hv3 => ?_)
  have S0 := va_S.rf (A := zA g) (H0 := s.heap)
  refine zk_go (a := a) (ar := [Value.ref a, .null, .null].toArray) (rest := []) (vx_runI (n := 2) (As := [.null, .null]) (b := a) (g := F0 m 3 ls3 [.null, .null, .ref a]) (rest := []) ⟨B.exec, B.bytes, hml, hown, hts⟩ (zk_thMet hl) (cwI 2 hts (lw_meth q1097) rfl rfl rfl (hts _ q52) (hts _ q1095) (hts _ q1096) rfl ⟨by decide, by decide, by decide +kernel⟩ ⟨by show 3 + 1 ≤ 4; decide, by show 8 + (3 + 11) + 42 ≤ 64; decide⟩) (zk_preB hT hna hcell hvm hmon hfound hk hord hsz hback S0) rfl rfl (hv3.1) rfl (by show 2 * 0 + 0 ≤ 8; decide) dJ8_init_3_3 ⟨Nat.le_refl _, Nat.le_refl _⟩) S0 hA (fun H1 locs1 z1 z2 z3 z4 => ?_)
  obtain ⟨c0, ce, y1, y2, y3, y4⟩ := z3
  refine vx_ret ?_
  exact W.vret (pc := 6) B.exec B.bytes B.returns (fun t ht hW => ⟨rfl, by rw [ht]; exact z1, fun q hq => by rw [ht]; exact z2 q hq, c0, ce, y1, by rw [ht]; exact y2, y3, y4⟩) z4.2.2 dJ8_init_3_6
theorem zk_laMet (hl : l.stackTraces = false) : vx_Met l zkLa (ws_ zkLa prog_4_method_1_code 2 none) ({ frames := 5, cells := 0, slots := 0, locals := 86 } : Room) (va_Pc [.ref a, .null] (zkB g a)) (zkQc a) (fun _ _ _ => False) 0 0 (zA g) := by
  refine vx_ofW (cc := prog_4_method_1_code) (maxL := 2) (ret := none) (by decide) rfl (fun p e s m args below meth c s₁ B hml htab hv => ?_)
  obtain ⟨rfl, hT, hna, cell, kX, hcell, hvm, hmon, hfound, hk, hord, hsz, hback⟩ := hv
  have hts : ∀ w ∈ lw_all, w.before _ s = true := fun w h => atoms_spec (ws := ws_ zkLa prog_4_method_1_code 2 none) B.pre w (List.mem_cons_of_mem _ h)
  have hown : s.vm.findClass zkL = some m.cls := findClass_of_methodNamed B.named
  have hA : zA g a := hna
  rw [lg_entry_eq]
  have hv0 := lv_entry (n := 2) [Value.ref a, .null] (Nat.le_of_ble_eq_true rfl)
  generalize ((lg_sl [Value.ref a, .null] ++ List.replicate (2 - (lg_sl [Value.ref a, .null]).length) Slot.unset).toArray) = ls0 at hv0 ⊢
  refine zp_ok (f := (1, _, [.ref a])) B.exec B.bytes rfl dX22_init_0 hv0 (fun ls1 hv1 => ?_)
  refine zp_ok (f := (2, _, [.null, .ref a])) B.exec B.bytes rfl dX22_init_1 hv1 (fun ls2 hv2 => ?_)
  refine zp_ok (f := (3, _, [.null, .null, .ref a])) B.exec B.bytes rfl dX22_init_2 hv2 (fun ls3 hv3 => ?_)
  have S0 := va_S.rf (A := zA g) (H0 := s.heap)
  refine zk_go (a := a) (ar := [Value.ref a, .null, .null].toArray) (rest := []) (vx_runI (n := 2) (As := [.null, .null]) (b := a) (g := F0 m 3 ls3 [.null, .null, .ref a]) (rest := []) ⟨B.exec, B.bytes, hml, hown, hts⟩ (zk_exMet hl) (cwI 2 hts (lw_meth q1094) rfl rfl rfl (hts _ q53) (hts _ q1092) (hts _ q1093) rfl ⟨by decide, by decide, by decide +kernel⟩ ⟨by show 4 + 1 ≤ 5; decide, by show 8 + (3 + 11) + 64 ≤ 86; decide⟩) (zk_preB hT hna hcell hvm hmon hfound hk hord hsz hback S0) rfl rfl (hv3.1) rfl (by show 2 * 0 + 0 ≤ 8; decide) dX22_init_3 ⟨Nat.le_refl _, Nat.le_refl _⟩) S0 hA (fun H1 locs1 z1 z2 z3 z4 => ?_)
  obtain ⟨c0, ce, y1, y2, y3, y4⟩ := z3
  refine vx_ret ?_
  exact W.vret (pc := 6) B.exec B.bytes B.returns (fun t ht hW => ⟨rfl, by rw [ht]; exact z1, fun q hq => by rw [ht]; exact z2 q hq, c0, ce, y1, by rw [ht]; exact y2, y3, y4⟩) z4.2.2 dX22_init_6
end ZLE
