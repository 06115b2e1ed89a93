/-! THE INTERPRETER: statics, read off at the start (printed by tools/statics.py) -/
set_option maxRecDepth 100000
def zt_good (r : (Nat × Nat) × (String × String × String)) : Prop := ∃ own ref : String, zcn[r.1.1]? = some own ∧ Cond.fieldLink own r.1.2 ref r.2.2.1 r.2.2.2 ∈ lw_all ∧ (ref = r.2.1 ∨ Cond.sameField ref r.2.1 r.2.2.1 r.2.2.2 ∈ lw_all)
def zt0 : (Nat × Nat) × (String × String × String) := ((1, 39), ("java/util/ArrayList", "DEFAULTCAPACITY_EMPTY_ELEMENTDATA", "[Ljava/lang/Object;"))
theorem zt0_g : zt_good zt0 := ⟨_, _, rfl, q110, Or.inl rfl⟩
def zt1 : (Nat × Nat) × (String × String × String) := ((30, 27), ("java/lang/Boolean", "TRUE", "Ljava/lang/Boolean;"))
theorem zt1_g : zt_good zt1 := ⟨_, _, rfl, q839, Or.inl rfl⟩
def zt2 : (Nat × Nat) × (String × String × String) := ((30, 31), ("java/lang/Boolean", "FALSE", "Ljava/lang/Boolean;"))
theorem zt2_g : zt_good zt2 := ⟨_, _, rfl, q841, Or.inl rfl⟩
def zt3 : (Nat × Nat) × (String × String × String) := ((38, 191), ("java/lang/Integer$IntegerCache", "high", "I"))
theorem zt3_g : zt_good zt3 := ⟨_, _, rfl, q1837, Or.inl rfl⟩
def zt4 : (Nat × Nat) × (String × String × String) := ((38, 195), ("java/lang/Integer$IntegerCache", "cache", "[Ljava/lang/Integer;"))
theorem zt4_g : zt_good zt4 := ⟨_, _, rfl, q1839, Or.inl rfl⟩
def zt5 : (Nat × Nat) × (String × String × String) := ((6, 13), ("java/lang/Throwable", "UNASSIGNED_STACK", "[Ljava/lang/StackTraceElement;"))
theorem zt5_g : zt_good zt5 := ⟨_, _, rfl, q261, Or.inl rfl⟩
def zt6 : (Nat × Nat) × (String × String × String) := ((6, 20), ("java/lang/Throwable", "SUPPRESSED_SENTINEL", "Ljava/util/List;"))
theorem zt6_g : zt_good zt6 := ⟨_, _, rfl, q263, Or.inl rfl⟩
def zt7 : (Nat × Nat) × (String × String × String) := ((0, 188), ("Foundrymark$Stage", "PROMISED", "LFoundrymark$Stage;"))
theorem zt7_g : zt_good zt7 := ⟨_, _, rfl, q376, Or.inl rfl⟩
def zt8 : (Nat × Nat) × (String × String × String) := ((0, 200), ("Foundrymark$Stage", "NEW", "LFoundrymark$Stage;"))
theorem zt8_g : zt_good zt8 := ⟨_, _, rfl, q911, Or.inl rfl⟩
def zt9 : (Nat × Nat) × (String × String × String) := ((0, 321), ("Foundrymark$Stage", "FINISHED", "LFoundrymark$Stage;"))
theorem zt9_g : zt_good zt9 := ⟨_, _, rfl, q1138, Or.inl rfl⟩
def zt10 : (Nat × Nat) × (String × String × String) := ((0, 303), ("Foundrymark$Stage", "WAITING", "LFoundrymark$Stage;"))
theorem zt10_g : zt_good zt10 := ⟨_, _, rfl, q1140, Or.inl rfl⟩
def zt11 : (Nat × Nat) × (String × String × String) := ((0, 362), ("Foundrymark$Stage", "WORKING", "LFoundrymark$Stage;"))
theorem zt11_g : zt_good zt11 := ⟨_, _, rfl, q1288, Or.inl rfl⟩
def zt12 : (Nat × Nat) × (String × String × String) := ((0, 417), ("Foundrymark$Stage", "DELIVERED", "LFoundrymark$Stage;"))
theorem zt12_g : zt_good zt12 := ⟨_, _, rfl, q1344, Or.inl rfl⟩
def zt13 : (Nat × Nat) × (String × String × String) := ((31, 29), ("Foundrymark$Rule", "TIGHT", "LFoundrymark$Rule;"))
theorem zt13_g : zt_good zt13 := ⟨_, _, rfl, q858, Or.inr q859⟩
def zt14 : (Nat × Nat) × (String × String × String) := ((31, 39), ("Foundrymark$Rule", "REDUCED", "LFoundrymark$Rule;"))
theorem zt14_g : zt_good zt14 := ⟨_, _, rfl, q869, Or.inr q870⟩
def zt15 : (Nat × Nat) × (String × String × String) := ((33, 11), ("Foundrymark$Rule", "NORMAL", "LFoundrymark$Rule;"))
theorem zt15_g : zt_good zt15 := ⟨_, _, rfl, q876, Or.inr q877⟩
def zt16 : (Nat × Nat) × (String × String × String) := ((34, 11), ("Foundrymark$Rule", "NORMAL", "LFoundrymark$Rule;"))
theorem zt16_g : zt_good zt16 := ⟨_, _, rfl, q882, Or.inr q883⟩
def zt17 : (Nat × Nat) × (String × String × String) := ((14, 10), ("Foundrymark$Stage", "WAITING", "LFoundrymark$Stage;"))
theorem zt17_g : zt_good zt17 := ⟨_, _, rfl, q391, Or.inl rfl⟩
def zt18 : (Nat × Nat) × (String × String × String) := ((14, 13), ("Foundrymark$Stage", "WORKING", "LFoundrymark$Stage;"))
theorem zt18_g : zt_good zt18 := ⟨_, _, rfl, q393, Or.inl rfl⟩
def zt19 : (Nat × Nat) × (String × String × String) := ((35, 19), ("Foundrymark$Stage", "NEW", "LFoundrymark$Stage;"))
theorem zt19_g : zt_good zt19 := ⟨_, _, rfl, q985, Or.inl rfl⟩
def zt20 : (Nat × Nat) × (String × String × String) := ((4, 7), ("Foundrymark$Rule", "NORMAL", "LFoundrymark$Rule;"))
theorem zt20_g : zt_good zt20 := ⟨_, _, rfl, q134, Or.inl rfl⟩
def ztL : List ((Nat × Nat) × (String × String × String)) := [zt0, zt1, zt2, zt3, zt4, zt5, zt6, zt7, zt8, zt9, zt10, zt11, zt12, zt13, zt14, zt15, zt16, zt17, zt18, zt19, zt20]
theorem ztL_good : ∀ r ∈ ztL, zt_good r := List.forall_mem_cons.mpr ⟨zt0_g, List.forall_mem_cons.mpr ⟨zt1_g, List.forall_mem_cons.mpr ⟨zt2_g, List.forall_mem_cons.mpr ⟨zt3_g, List.forall_mem_cons.mpr ⟨zt4_g, List.forall_mem_cons.mpr ⟨zt5_g, List.forall_mem_cons.mpr ⟨zt6_g, List.forall_mem_cons.mpr ⟨zt7_g, List.forall_mem_cons.mpr ⟨zt8_g, List.forall_mem_cons.mpr ⟨zt9_g, List.forall_mem_cons.mpr ⟨zt10_g, List.forall_mem_cons.mpr ⟨zt11_g, List.forall_mem_cons.mpr ⟨zt12_g, List.forall_mem_cons.mpr ⟨zt13_g, List.forall_mem_cons.mpr ⟨zt14_g, List.forall_mem_cons.mpr ⟨zt15_g, List.forall_mem_cons.mpr ⟨zt16_g, List.forall_mem_cons.mpr ⟨zt17_g, List.forall_mem_cons.mpr ⟨zt18_g, List.forall_mem_cons.mpr ⟨zt19_g, List.forall_mem_cons.mpr ⟨zt20_g, fun _ h => absurd h List.not_mem_nil⟩⟩⟩⟩⟩⟩⟩⟩⟩⟩⟩⟩⟩⟩⟩⟩⟩⟩⟩⟩⟩
def zt_at (own idx : Nat) : Option (String × String × String) := (ztL.find? (fun r => r.1.1 == own && r.1.2 == idx)).map (·.2)
theorem zt_at_ok {own idx : Nat} {x : String × String × String} (h : zt_at own idx = some x) : zt_good ((own, idx), x) := by
  unfold zt_at at h
  cases hf : ztL.find? (fun r => r.1.1 == own && r.1.2 == idx) with
  | none => rw [hf] at h; cases h
  | some r =>
    rw [hf] at h
    obtain rfl := Option.some.inj h
    have h1 := List.find?_some hf
    have h2 := ztL_good r (List.mem_of_find?_eq_some hf)
    simp only [Bool.and_eq_true, beq_iff_eq] at h1
    obtain ⟨⟨a, b⟩, x⟩ := r
    obtain ⟨rfl, rfl⟩ := h1
    exact h2
/-- a static's value at the start -/
def zt_val (zs : List (String × String × String × Value)) (x : String × String × String) : Option Value := (zs.find? (fun r => r.1 == x.1 && (r.2.1 == x.2.1 && r.2.2.1 == x.2.2))).map (·.2.2.2)
def zs_stat (zs : List (String × String × String × Value)) (own idx : Nat) (pc : Nat) (lv : zp_L) (st : List Value) (σ : zS) : Option (zp_F × zS) := match zt_at own idx with
  | some x => match zt_val zs x with
    | some v => some ((pc + 3, lv, v :: st), σ)
    | none => none
  | none => none
section ZT
variable {p : Program} {l : Launch} {e : Env} {R : Room} {s : State} {m : MethodId} {args : Array Value} {below : List Frame} {meth : Method} {c : Code} {H : Heap} {locs : List Loc} {cells slots : Nat} {Q : State → Prop}
variable {ls : Array Slot} {g : zG} {μ : zMt} {own idx pc : Nat} {lv : zp_L} {st : List Value} {σ : zS} {f : zp_F × zS}
theorem zs_stat_ok (C : zCtx g p s m args meth c μ own) (h : zs_stat (zg_s g) own idx pc lv st σ = some f) (hS : va_S (zA g) s.heap H locs) (hd : decode μ.2.1 pc = .ok (.getstatic idx, 3))
    (k : f.2 = σ → f.1.2.1 = lv → W p l e R s m args below meth c H locs cells slots Q (F0 m f.1.1 ls f.1.2.2)) : W p l e R s m args below meth c H locs cells slots Q (F0 m pc ls st) := by
  obtain ⟨hx, hb, hml, hr, hlk, hnm, ⟨nm, hn, hown⟩, hts, hT, hcl⟩ := C
  unfold zs_stat at h
  split at h
  · rename_i x hx2
    split at h
    · rename_i v hv
      obtain rfl := Option.some.inj h
      obtain ⟨own', ref, g1, g2, g3⟩ := zt_at_ok hx2
      cases Option.some.inj (g1.symm.trans hn)
      unfold zt_val at hv
      cases hf : (zg_s g).find? (fun r => r.1 == x.1 && (r.2.1 == x.2.1 && r.2.2.1 == x.2.2)) with
      | none => rw [hf] at hv; cases hv
      | some r =>
        rw [hf] at hv
        obtain rfl := Option.some.inj hv
        have h1 := List.find?_some hf
        have hZ := hT.2.2.1 r (List.mem_of_find?_eq_some hf)
        simp only [Bool.and_eq_true, beq_iff_eq] at h1
        obtain ⟨h2, h3, h4⟩ := h1
        rw [h2, h3, h4] at hZ
        exact va_gets hx hb hZ hS hown (hts _ g2) (zs_same hts g3) hd (k rfl rfl)
    · cases h
  · cases h
end ZT
