/-! THE INTERPRETER: reading and writing a field -/
/-- what holds in a method's body, at every point: μ is the method, own its class's number -/
def zCtx (g : zG) (p : Program) (s : State) (m : MethodId) (args : Array Value) (meth : Method) (c : Code) (μ : zMt) (own : Nat) : Prop :=
  p.tables.exec = Jvm.exec ∧ c.code = μ.2.1 ∧ c.maxLocals = μ.2.2.1 ∧ meth.sig.returnType = μ.2.2.2.1 ∧ meth.locks = false ∧ meth.name = μ.1.name ∧
  (∃ nm : String, zcn[own]? = some nm ∧ s.vm.findClass nm = some m.cls) ∧ (∀ w ∈ lw_all, w.before args s = true) ∧ zT g s ∧ zg_cl g = zcl
/-- a field is read -/
def zs_get (own idx : Nat) (pc : Nat) (lv : zp_L) (st : List Value) (a : Nat) (σ : zS) : Option (zp_F × zS) := match σ.1 a with
  | some (.inr (ci, fs)) => match zf_at own idx ci with
    | some x => match fs[x.1]? with
      | some v => some ((pc + 3, lv, v :: st), σ)
      | none => none
    | none => none
  | _ => none
/-- a field is written: one that isn't final, or in the constructor of the class that declares it -/
def zs_put (n0 : Nat) (init : Bool) (own idx : Nat) (pc : Nat) (lv : zp_L) (st : List Value) (v : Value) (a : Nat) (σ : zS) : Option (zp_F × zS) := match σ.1 a with
  | some (.inr (ci, fs)) => match zf_at own idx ci with
    | some x => if n0 ≤ a ∧ (x.2.2.1 = false ∨ (x.2.2.2 = true ∧ init = true)) ∧ narrow x.2.1 v = v ∧ fits x.2.1 v = true ∧ x.1 < fs.length then some ((pc + 3, lv, st), (zw_up σ.1 a (.inr (ci, fs.set x.1 v)), σ.2)) else none
    | none => none
  | _ => none
section ZS
variable {p : Program} {l : Launch} {e : Env} {R : Room} {s : State} {m : MethodId} {args : Array Value} {below : List Frame} {meth : Method} {c : Code} {H : Heap} {locs : List Loc} {cells slots : Nat} {Q : State → Prop}
variable {ls : Array Slot} {g : zG} {μ : zMt} {own idx pc : Nat} {lv : zp_L} {st : List Value} {a : Nat} {v : Value} {σ : zS} {f : zp_F × zS}
theorem zs_same {ref o n d : String} (hts : ∀ w ∈ lw_all, w.before args s = true) (h : ref = o ∨ Cond.sameField ref o n d ∈ lw_all) : ∀ x, s.fieldFound? o n d = some x → s.fieldFound? ref n d = some x := by
  rcases h with rfl | h
  · exact fun _ h => h
  · exact u_same (hts _ h)
theorem zs_get_ok (C : zCtx g p s m args meth c μ own) (h : zs_get own idx pc lv st a σ = some f) (hP : zw_P (zg_D g) (zg_A g) (zg_cl g) σ.1 H) (hd : decode μ.2.1 pc = .ok (.getfield idx, 3))
    (k : f.2 = σ → W p l e R s m args below meth c H locs cells slots Q (F0 m f.1.1 ls f.1.2.2)) : W p l e R s m args below meth c H locs cells slots Q (F0 m pc ls (.ref a :: st)) := by
  obtain ⟨hx, hb, hml, hr, hlk, hnm, ⟨nm, hn, hown⟩, hts, hT, hcl⟩ := C
  unfold zs_get at h
  split at h
  · rename_i ci fs hw
    split at h
    · rename_i x hf
      split at h
      · rename_i v hv
        obtain rfl := Option.some.inj h
        obtain ⟨own', C', T, N, ty0, ref, g1, g2, g3, g4, g5, g6, g7, g8⟩ := zf_at_ok hf
        cases Option.some.inj (g1.symm.trans hn)
        have hat := hP a _ hw
        rw [hcl] at hat
        have hK := hT.1
        rw [hcl] at hK
        rcases g6 with g6 | ⟨host, g6⟩
        · exact zh_get hx hb hts g2 hown hK hat _ g3 (hts _ g6) (zs_same hts g7) hv hd (k rfl)
        · exact zh_getN (host := host) hx hb hts g2 hown hK hat _ g3 (va_Nw.use rfl (hT.2.1.1 _ _ _ _ _ _ g6)) (zs_same hts g7) hv hd (k rfl)
      · cases h
    · cases h
  · cases h
theorem zs_put_ok (C : zCtx g p s m args meth c μ own) (h : zs_put (zg_n g) (μ.1.name == "<init>") own idx pc lv st v a σ = some f) (hP : zw_P (zg_D g) (zg_A g) (zg_cl g) σ.1 H) (hz : H.size = σ.2.1) (hS : va_S (zA g) s.heap H locs) (hd : decode μ.2.1 pc = .ok (.putfield idx, 3))
    (k : ∀ (H1 : Heap) (locs1 : List Loc), zw_P (zg_D g) (zg_A g) (zg_cl g) f.2.1 H1 → H1.size = f.2.2.1 → f.2.2 = σ.2 → va_S (zA g) s.heap H1 locs1 → W p l e R s m args below meth c H1 locs1 cells slots Q (F0 m f.1.1 ls f.1.2.2)) : W p l e R s m args below meth c H locs cells slots Q (F0 m pc ls (v :: .ref a :: st)) := by
  obtain ⟨hx, hb, hml, hr, hlk, hnm, ⟨nm, hn, hown⟩, hts, hT, hcl⟩ := C
  unfold zs_put at h
  split at h
  · rename_i ci fs hw
    split at h
    · rename_i x hf
      split at h
      · rename_i hc
        obtain ⟨c1, c2, c3, c4, c5⟩ := hc
        obtain rfl := Option.some.inj h
        obtain ⟨own', C', T, N, ty0, ref, g1, g2, g3, g4, g5, g6, g7, g8⟩ := zf_at_ok hf
        cases Option.some.inj (g1.symm.trans hn)
        have hat := zy_new (hP a _ hw) (by rw [hT.2.2.2.2.2.2.1.2.2.2]; exact c1)
        rw [hcl] at hat
        have hK := hT.1
        rw [hcl] at hK
        have fin : ∀ H1 : Heap, zh_K (zg_D g) zcl a ci fs x.1 v H H1 → W p l e R s m args below meth c H1 (locs ++ [⟨a, (zg_D g).2 ci x.1⟩]) cells slots Q (F0 m (pc + 3) ls st) := by
          intro H1 ⟨e1, e2, e3⟩
          refine k H1 _ ?_ (by rw [e2]; exact hz) rfl (hS.put e2 e3 c1)
          exact hP.up (by rw [hcl]; exact Or.inl e1) (fun q hq _ => e3 q hq)
        have c3' : narrow (ty0 x.1) v = v := by rw [g4]; exact c3
        have c4' : fits (ty0 x.1) v = true := by rw [g4]; exact c4
        rcases c2 with c2 | ⟨c2, c6⟩
        · rcases g6 with g6 | ⟨host, g6⟩
          · exact zh_put hx hb hts g2 hown hK hat _ g3 (hts _ g6) (zs_same hts g7) (g5.trans c2) c3' c4' c5 hd fin
          · exact zh_putN (host := host) hx hb hts g2 hown hK hat _ g3 (va_Nw.use rfl (hT.2.1.1 _ _ _ _ _ _ g6)) (zs_same hts g7) (g5.trans c2) c3' c4' c5 hd fin
        · obtain ⟨h8, h9⟩ := g8 c2
          cases hfn : x.2.2.1 with
          | true => exact zh_putF hx hb hts g2 hown hK hat _ g3 (hts _ h9) (zs_same hts g7) (g5.trans hfn) (by rw [hnm]; simpa using c6) h8 c3' c4' c5 hd fin
          | false => exact zh_put hx hb hts g2 hown hK hat _ g3 (hts _ h9) (zs_same hts g7) (g5.trans hfn) c3' c4' c5 hd fin
      · cases h
    · cases h
  · cases h
end ZS
