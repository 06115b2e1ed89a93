/-! THE INTERPRETER: a method's end; Object's constructor; Math -/
def zr_ret (i : Instr) (len : Nat) (st : List Value) (ret : Option FieldType) : Option (Option Value) := match i, len, st, ret with
  | .return_, 1, [], none => some none
  | .ireturn, 1, [.int v], some ty => if narrow ty (.int v) = .int v then some (some (.int v)) else none
  | .lreturn, 1, [.long v], some .long => some (some (.long v))
  | .freturn, 1, [.float v], some .float => some (some (.float v))
  | .dreturn, 1, [.double v], some .double => some (some (.double v))
  | .areturn, 1, [.ref a], some (.object _) => some (some (.ref a))
  | .areturn, 1, [.null], some (.object _) => some (some .null)
  | .areturn, 1, [.ref a], some (.array _) => some (some (.ref a))
  | .areturn, 1, [.null], some (.array _) => some (some .null)
  | _, _, _, _ => none
section ZRR
variable {p : Program} {l : Launch} {e : Env} {R : Room} {s : State} {m : MethodId} {args : Array Value} {below : List Frame} {meth : Method} {c : Code} {H : Heap} {locs : List Loc} {cells slots : Nat} {Q : State → Prop}
variable {ls : Array Slot} {g : zG} {μ : zMt} {own idx pc len : Nat} {lv : zp_L} {st : List Value} {v : Option Value} {σ : zS} {i : Instr} {XC : String → State → State → Prop}
theorem zr_ret_ok (C : zCtx g p s m args meth c μ own) (h : zr_ret i len st μ.2.2.2.1 = some v) (hP : zw_P (zg_D g) (zg_A g) (zg_cl g) σ.1 H) (hz : H.size = σ.2.1) (hn0 : zg_n g ≤ σ.2.1) (hS : va_S (zA g) s.heap H locs) (hd : decode μ.2.1 pc = .ok (i, len)) :
    W p l e R s m args below meth c H locs cells slots (vx_MQ below (zQ g v σ) XC args s cells slots (zA g)) (F0 m pc ls st) := by
  obtain ⟨hx, hb, hml, hr, hlk, hnm, ⟨nm, hn, hown⟩, hts, hT, hcl⟩ := C
  refine vx_ret ?_
  have hq : ∀ (w : Option Value) (t : State), t.heap = H → s.WarmedH t.vm → zQ g w σ args s (.returned w) t := fun w t ht hW => ⟨rfl, zI.here hP hz hn0 hT hS hW ht, hS.F ht⟩
  generalize hret : μ.2.2.2.1 = ret at h hr
  unfold zr_ret at h
  split at h
  · obtain rfl := Option.some.inj h
    exact W.vret hx hb hr (hq _) hS.2.2 hd
  · split at h
    · obtain rfl := Option.some.inj h
      exact W.zret hx hb hr (by assumption) (hq _) hS.2.2 hd
    · cases h
  · obtain rfl := Option.some.inj h
    exact W.lret hx hb hr (hq _) hS.2.2 hd
  · obtain rfl := Option.some.inj h
    exact W.fret hx hb hr (hq _) hS.2.2 hd
  · obtain rfl := Option.some.inj h
    exact W.dret hx hb hr (hq _) hS.2.2 hd
  · obtain rfl := Option.some.inj h
    exact W.aret hx hb hr (Or.inl ⟨_, rfl⟩) (Or.inr ⟨_, rfl⟩) (hq _) hS.2.2 hd
  · obtain rfl := Option.some.inj h
    exact W.aret hx hb hr (Or.inl ⟨_, rfl⟩) (Or.inl rfl) (hq _) hS.2.2 hd
  · obtain rfl := Option.some.inj h
    exact W.aret hx hb hr (Or.inr ⟨_, rfl⟩) (Or.inr ⟨_, rfl⟩) (hq _) hS.2.2 hd
  · obtain rfl := Option.some.inj h
    exact W.aret hx hb hr (Or.inr ⟨_, rfl⟩) (Or.inl rfl) (hq _) hS.2.2 hd
  · cases h
end ZRR
