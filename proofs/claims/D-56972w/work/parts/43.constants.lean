/-! THE INTERPRETER: fields of the constant objects (letters and thresholds of Rule and Stage, Boolean's value) -/
/-- which field: the accessing class, the entry; owner, name, type, whether it is a nest mate's -/
def zvL : List ((Nat × Nat) × (String × String × String)) := (zcn.zipIdx.flatMap fun (nm, i) => if nm = "Foundrymark" then [((i, 144), ("Foundrymark$Rule", "letter", "C")), ((i, 420), ("Foundrymark$Stage", "letter", "C"))] else if nm = "Foundrymark$Supplier" then [((i, 25), ("Foundrymark$Rule", "most", "I"))] else if nm = "java/lang/Boolean" then [((i, 7), ("java/lang/Boolean", "value", "Z"))] else [])
def zv_good (r : (Nat × Nat) × (String × String × String)) : Prop := ∃ own : String, zcn[r.1.1]? = some own ∧ (Cond.fieldLink own r.1.2 r.2.1 r.2.2.1 r.2.2.2 ∈ lw_all ∨ ∃ host : String, Cond.fieldLinkNest own r.1.2 r.2.1 r.2.2.1 r.2.2.2 host ∈ lw_tbl)
theorem zvL_good : ∀ r ∈ zvL, zv_good r := by
  intro r hr
  obtain ⟨⟨nm, i⟩, h1, h2⟩ := List.mem_flatMap.mp hr
  have h3 : zcn[i]? = some nm := by
    have := List.mem_zipIdx_iff_getElem?.mp h1
    exact this
  dsimp only at h2
  split at h2
  · rename_i e; subst e
    simp only [List.mem_cons, List.not_mem_nil, or_false] at h2
    rcases h2 with rfl | rfl
    · exact ⟨_, h3, Or.inr ⟨_, q2030⟩⟩
    · exact ⟨_, h3, Or.inr ⟨_, q2032⟩⟩
  · split at h2
    · rename_i e; subst e
      simp only [List.mem_cons, List.not_mem_nil, or_false] at h2
      subst h2
      exact ⟨_, h3, Or.inr ⟨_, q2028⟩⟩
    · split at h2
      · rename_i e; subst e
        simp only [List.mem_cons, List.not_mem_nil, or_false] at h2
        subst h2
        exact ⟨_, h3, Or.inl q2029⟩
      · cases h2
def zv_at (own idx : Nat) : Option (String × String × String) := (zvL.find? (fun r => r.1.1 == own && r.1.2 == idx)).map (·.2)
theorem zv_at_ok {own idx : Nat} {x : String × String × String} (h : zv_at own idx = some x) : zv_good ((own, idx), x) := by
  unfold zv_at at h
  cases hf : zvL.find? (fun r => r.1.1 == own && r.1.2 == idx) with
  | none => rw [hf] at h; cases h
  | some r =>
    rw [hf] at h
    obtain rfl := Option.some.inj h
    have h1 := List.find?_some hf
    have h2 := zvL_good r (List.mem_of_find?_eq_some hf)
    simp only [Bool.and_eq_true, beq_iff_eq] at h1
    obtain ⟨⟨a, b⟩, x⟩ := r
    obtain ⟨rfl, rfl⟩ := h1
    exact h2
def zv_val (zo : List (String × String × String × Value × Nat)) (x : String × String × String) (a : Nat) : Option Value := (zo.find? (fun r => r.1 == x.1 && (r.2.1 == x.2.1 && (r.2.2.1 == x.2.2 && r.2.2.2.2 == a)))).map (·.2.2.2.1)
def zs_const (zo : List (String × String × String × Value × Nat)) (own idx : Nat) (pc : Nat) (lv : zp_L) (st : List Value) (a : Nat) (σ : zS) : Option (zp_F × zS) := match zv_at own idx with
  | some x => match zv_val zo x a with
    | some v => some ((pc + 3, lv, v :: st), σ)
    | none => none
  | none => none
section ZV
variable {p : Program} {l : Launch} {e : Env} {R : Room} {s : State} {m : MethodId} {args : Array Value} {below : List Frame} {meth : Method} {c : Code} {H : Heap} {locs : List Loc} {cells slots : Nat} {Q : State → Prop}
variable {ls : Array Slot} {g : zG} {μ : zMt} {own idx pc : Nat} {lv : zp_L} {st : List Value} {a : Nat} {σ : zS} {f : zp_F × zS}
theorem zs_const_ok (C : zCtx g p s m args meth c μ own) (h : zs_const (zg_o g) own idx pc lv st a σ = some f) (hS : va_S (zA g) s.heap H locs) (hd : decode μ.2.1 pc = .ok (.getfield idx, 3))
    (k : f.2 = σ → f.1.2.1 = lv → W p l e R s m args below meth c H locs cells slots Q (F0 m f.1.1 ls f.1.2.2)) : W p l e R s m args below meth c H locs cells slots Q (F0 m pc ls (.ref a :: st)) := by
  obtain ⟨hx, hb, hml, hr, hlk, hnm, ⟨nm, hn, hown⟩, hts, hT, hcl⟩ := C
  unfold zs_const at h
  split at h
  · rename_i x hx2
    split at h
    · rename_i v hv
      obtain rfl := Option.some.inj h
      obtain ⟨own', g1, g2⟩ := zv_at_ok hx2
      cases Option.some.inj (g1.symm.trans hn)
      unfold zv_val at hv
      cases hf : (zg_o g).find? (fun r => r.1 == x.1 && (r.2.1 == x.2.1 && (r.2.2.1 == x.2.2 && r.2.2.2.2 == a))) with
      | none => rw [hf] at hv; cases hv
      | some r =>
        rw [hf] at hv
        obtain rfl := Option.some.inj hv
        have h1 := List.find?_some hf
        have hO := hT.2.2.2.1 r (List.mem_of_find?_eq_some hf)
        simp only [Bool.and_eq_true, beq_iff_eq] at h1
        obtain ⟨h2, h3, h4, h5⟩ := h1
        rw [h2, h3, h4, h5] at hO
        obtain ⟨cf, k9, fi, f9, cell, o1, o2, o3, o4, o5, o6⟩ := hO.kept hS.2.1
        rcases g2 with g2 | ⟨host, g2⟩
        · exact W.getf hx hb hown (hts _ g2) o1 o2 o3 o4 o5 rfl rfl hd (k rfl rfl)
        · exact va_Wgetf (host := host) hx hb hown (va_Nw.use rfl (hT.2.1.1 _ _ _ _ _ _ g2)) o1 o2 o3 o4 o5 rfl rfl hd (k rfl rfl)
    · cases h
  · cases h
end ZV
