/-! THE INTERPRETER: a call of any kind, given what the callee does: it returns or throws -/
set_option maxRecDepth 100000
/-- a method's words, with handlers or without -/
def zws (μ : zMt) : List Cond := match μ.2.2.2.2 with
  | [] => ws_ μ.1 μ.2.1 μ.2.2.1 μ.2.2.2.1
  | h :: t => wsW_ μ.1 μ.2.1 μ.2.2.1 μ.2.2.2.1 (h :: t)
theorem zws_nil {μ : zMt} (h : μ.2.2.2.2 = []) : zws μ = ws_ μ.1 μ.2.1 μ.2.2.1 μ.2.2.2.1 := by unfold zws; rw [h]
theorem zws_ne {μ : zMt} (h : μ.2.2.2.2 ≠ []) : zws μ = wsW_ μ.1 μ.2.1 μ.2.2.1 μ.2.2.2.1 μ.2.2.2.2 := by
  unfold zws
  split
  · rename_i h2; exact absurd h2 h
  · rename_i a b h2; rw [h2]
abbrev zMet (g : zG) (l : Launch) (μ : zMt) (d : Nat) (As : List Value) (σ : zS) (Qc : Array Value → State → Outcome → State → Prop) (XC : String → State → State → Prop) (mc ms : Nat) : Prop :=
  vx_Met l μ.1 (zws μ) ({ frames := d, cells := mc, slots := ms, locals := 64 * d } : Room) (va_Pc As (fun U => zI g σ U)) Qc XC mc ms (zA g)
/-- what a call finds -/
def zCal (g : zG) (p : Program) (R : Room) (s : State) (m : MethodId) (args : Array Value) (meth : Method) (c : Code) (μ : zMt) (own : Nat) (H : Heap) (locs : List Loc) (cells slots : Nat) (ls : Array Slot) (σ : zS) (d mc ms : Nat) (rest : List Value) : Prop :=
  zCtx g p s m args meth c μ own ∧ zw_P (zg_D g) (zg_A g) (zg_cl g) σ.1 H ∧ H.size = σ.2.1 ∧ zg_n g ≤ σ.2.1 ∧ va_S (zA g) s.heap H locs ∧ ls.size = μ.2.2.1 ∧ (rest.map fun v => v.category).sum ≤ 8 ∧ d + 1 ≤ R.frames ∧ 64 * (d + 1) ≤ R.locals ∧ cells + mc ≤ R.cells ∧ slots + ms ≤ R.slots
/-- the classes of receivers: of the world's objects, of the constants -/
def zrc (g : zG) (σ : zS) (b : Nat) : Option String := match σ.1 b with
  | some (.inr (ci, _)) => (zcl[ci]?).map (·.1)
  | _ => ((zg_k g).find? (fun r => r.2 == b)).map (·.1)
/-- calls of inherited methods and of methods of constants: (own, entry, receiver's class), (method, arguments) -/
def zuL : List ((Nat × Nat × String) × (Nat × Nat)) := [((0, 227, "Foundrymark$Made"), (97, 1)), ((0, 227, "Foundrymark$Bought"), (97, 1)), ((0, 387, "java/util/PriorityQueue"), (150, 0)), ((3, 7, "java/util/PriorityQueue"), (130, 0)), ((4, 39, "Foundrymark$Rule$1"), (79, 1)), ((4, 39, "Foundrymark$Rule$2"), (82, 1)), ((4, 39, "Foundrymark$Rule$3"), (83, 1))]
def zu_good (r : (Nat × Nat × String) × (Nat × Nat)) : Prop := ∃ (own owner : String) (μ : zMt) (x : MethodName), zcn[r.1.1]? = some own ∧ zML[r.2.1]? = some μ ∧ μ.2.2.2.2 = [] ∧ (owner ≠ "java/lang/invoke/MethodHandle" ∧ owner ≠ "java/lang/invoke/VarHandle" ∧ (parseMethodDescriptor x.desc).map (fun d => d.parameters.length) = some r.2.2) ∧
  (Cond.methodLink own r.1.2.1 x ∈ lw_all ∧ Cond.sameMethod x.cls owner x.name x.desc ∈ lw_all ∧ Cond.selects r.1.2.2 x μ.1 ∈ lw_all ∧ Cond.instanceMethod μ.1 ∈ lw_all ∧ Cond.initialized μ.1.cls ∈ lw_all) ∧
  (μ.1 = ⟨owner, x.name, x.desc⟩ ∨ Cond.declares ⟨owner, x.name, x.desc⟩ ∈ lw_tbl)
theorem zuL_good : ∀ r ∈ zuL, zu_good r := by
  refine List.forall_mem_cons.mpr ⟨⟨_, "Foundrymark$Part", zm97, zm97.1, rfl, rfl, rfl, ⟨by decide, by decide, by decide +kernel⟩, ⟨q934, q936, q938, q935, q61⟩, Or.inl rfl⟩, ?_⟩
  refine List.forall_mem_cons.mpr ⟨⟨_, "Foundrymark$Part", zm97, zm97.1, rfl, rfl, rfl, ⟨by decide, by decide, by decide +kernel⟩, ⟨q934, q936, q937, q935, q61⟩, Or.inl rfl⟩, ?_⟩
  refine List.forall_mem_cons.mpr ⟨⟨_, "java/util/AbstractCollection", zm150, ⟨"java/util/PriorityQueue", "isEmpty", "()Z"⟩, rfl, rfl, rfl, ⟨by decide, by decide, by decide +kernel⟩, ⟨q1263, q1264, q1266, q1267, q41⟩, Or.inl rfl⟩, ?_⟩
  refine List.forall_mem_cons.mpr ⟨⟨_, "java/util/AbstractCollection", zm130, ⟨"java/util/AbstractCollection", "size", "()I"⟩, rfl, rfl, rfl, ⟨by decide, by decide, by decide +kernel⟩, ⟨q1269, q1271, q1273, q1146, q59⟩, Or.inr q1270⟩, ?_⟩
  refine List.forall_mem_cons.mpr ⟨⟨_, "Foundrymark$Rule", zm79, ⟨"Foundrymark$Rule", "next", "(Ljava/util/ArrayList;)LFoundrymark$Rule;"⟩, rfl, rfl, rfl, ⟨by decide, by decide, by decide +kernel⟩, ⟨q844, q846, q847, q848, q75⟩, Or.inr q845⟩, ?_⟩
  refine List.forall_mem_cons.mpr ⟨⟨_, "Foundrymark$Rule", zm82, ⟨"Foundrymark$Rule", "next", "(Ljava/util/ArrayList;)LFoundrymark$Rule;"⟩, rfl, rfl, rfl, ⟨by decide, by decide, by decide +kernel⟩, ⟨q844, q846, q872, q873, q76⟩, Or.inr q845⟩, ?_⟩
  refine List.forall_mem_cons.mpr ⟨⟨_, "Foundrymark$Rule", zm83, ⟨"Foundrymark$Rule", "next", "(Ljava/util/ArrayList;)LFoundrymark$Rule;"⟩, rfl, rfl, rfl, ⟨by decide, by decide, by decide +kernel⟩, ⟨q844, q846, q878, q879, q77⟩, Or.inr q845⟩, ?_⟩
  exact fun _ h => absurd h List.not_mem_nil
def zu_at (own idx : Nat) (C : String) : Option (Nat × Nat) := (zuL.find? (fun r => r.1.1 == own && (r.1.2.1 == idx && r.1.2.2 == C))).map (·.2)
theorem zu_at_ok {own idx : Nat} {C : String} {x : Nat × Nat} (h : zu_at own idx C = some x) : zu_good ((own, idx, C), x) := by
  unfold zu_at at h
  cases hf : zuL.find? (fun r => r.1.1 == own && (r.1.2.1 == idx && r.1.2.2 == C)) with
  | none => rw [hf] at h; cases h
  | some r =>
    rw [hf] at h
    obtain rfl := Option.some.inj h
    have h1 := List.find?_some hf
    have h2 := zuL_good r (List.mem_of_find?_eq_some hf)
    simp only [Bool.and_eq_true, beq_iff_eq] at h1
    obtain ⟨⟨a, b, c⟩, x⟩ := r
    obtain ⟨rfl, rfl, rfl⟩ := h1
    exact h2
section ZAC
variable {p : Program} {l : Launch} {e : Env} {R : Room} {s : State} {m : MethodId} {args : Array Value} {below : List Frame} {meth : Method} {c : Code} {H : Heap} {locs : List Loc} {cells slots : Nat} {Q : State → Prop}
variable {ls : Array Slot} {g : zG} {μ μ' : zMt} {own idx pc d b mc ms ci count : Nat} {rest As fs : List Value} {σ : zS} {x : Nat × Nat} {Cn : String} {Qc : Array Value → State → Outcome → State → Prop} {XC : String → State → State → Prop}
theorem zrc_ok (hg : zWf g) (hT : zT g s) (hP : zw_P (zg_D g) (zg_A g) (zg_cl g) σ.1 H) (hS : va_S (zA g) s.heap H locs) (h : zrc g σ b = some Cn) : ∃ cell : Cell, H[b]? = some cell ∧ cell.vm.isStatics = false ∧ s.vm.findClass Cn = some cell.cls := by
  unfold zrc at h
  split at h
  · rename_i ci fs hw
    cases hc : zcl[ci]? with
    | none => rw [hc] at h; cases h
    | some r =>
      rw [hc] at h
      obtain rfl := Option.some.inj h
      have hat := hP b _ hw
      rw [hg.1] at hat
      have hK := hT.1
      rw [hg.1] at hK
      exact zk_recv hK hat hc
  · cases hf : (zg_k g).find? (fun r => r.2 == b) with
    | none => rw [hf] at h; cases h
    | some r =>
      rw [hf] at h
      obtain rfl := Option.some.inj h
      have h1 := List.find?_some hf
      have h2 := hT.2.2.2.2.2.2.2 r (List.mem_of_find?_eq_some hf)
      simp only [beq_iff_eq] at h1
      rw [h1] at h2
      obtain ⟨cell, c1, c2, c3, -⟩ := h2.kept hS.2.1
      exact ⟨cell, c1, c2, c3⟩
theorem zr_codeW (hμ : zML[x.1]? = some μ') (hh : μ'.2.2.2.2 ≠ []) : Cond.codeWith μ'.1 μ'.2.1 μ'.2.2.1 μ'.2.2.2.1 μ'.2.2.2.2 ∈ lw_all := by
  obtain ⟨m1, m2, m3⟩ := zML_good _ (List.mem_of_getElem? hμ)
  rcases m3 with m3 | m3
  · exact absurd m3.1 hh
  · exact m3.2
theorem zr_S (K : zCal g p R s m args meth c μ own H locs cells slots ls σ d mc ms rest) (hx : zcS_at own idx = some x) (hμ : zML[x.1]? = some μ') (hL : μ'.2.2.1 ≤ 45) (hM : zMet g l μ' d As σ Qc XC mc ms) (hn : As.length = x.2) (hd : decode μ.2.1 pc = .ok (.invokestatic idx, 3)) :
    vx_Run p l e R s m args below meth c H locs cells slots mc ms (F0 m pc ls (As.reverse ++ rest)) rest (Qc As.toArray) XC (zA g) := by
  obtain ⟨C, hP, hz, hn0, hS, hsz, hcat, hfr, hlo, hc0, hs0⟩ := K
  by_cases hh : μ'.2.2.2.2 = []
  · unfold zMet at hM
    rw [zws_nil hh] at hM
    exact zk_runS C hx hμ hh hL hM hP hz hn0 hS hsz hn hcat hfr hlo hc0 hs0 hd
  · unfold zMet at hM
    rw [zws_ne hh] at hM
    obtain ⟨hx0, hb, hml, hr, hlk, hnm, ⟨nm, hnn, hown⟩, hts, hT, hcl⟩ := C
    obtain ⟨own', μ2, ⟨b1, b2, b3, b4⟩, g2, g3⟩ := zcS_at_ok hx
    cases Option.some.inj (b1.symm.trans hnn)
    cases Option.some.inj (b2.symm.trans hμ)
    obtain ⟨m1, m2, m3⟩ := zML_good _ (List.mem_of_getElem? hμ)
    exact vx_runSX (n := x.2) ⟨hx0, hb, hml, hown, hts⟩ hM (vx_cwSW x.2 hts (lw_SW g2 g3 b4 (zr_codeW (x := x) hμ hh)) rfl rfl rfl ⟨m2.1, m2.2, b3⟩ ⟨hfr, by show 8 + (μ'.2.2.1 + 11) + 64 * d ≤ R.locals; omega⟩) (zk_pre hT hP hz hn0 hS) rfl hn hsz rfl (lv_room hcat) hd ⟨hc0, hs0⟩
theorem zr_N (K : zCal g p R s m args meth c μ own H locs cells slots ls σ d mc ms rest) (hx : zcN_at own idx = some x) (hμ : zML[x.1]? = some μ') (hh : μ'.2.2.2.2 = []) (hL : μ'.2.2.1 ≤ 45) (hM : zMet g l μ' d As σ Qc XC mc ms) (hn : As.length = x.2) (hd : decode μ.2.1 pc = .ok (.invokestatic idx, 3)) :
    vx_Run p l e R s m args below meth c H locs cells slots mc ms (F0 m pc ls (As.reverse ++ rest)) rest (Qc As.toArray) XC (zA g) := by
  obtain ⟨C, hP, hz, hn0, hS, hsz, hcat, hfr, hlo, hc0, hs0⟩ := K
  unfold zMet at hM
  rw [zws_nil hh] at hM
  obtain ⟨hx0, hb, hml, hr, hlk, hnm, ⟨nm, hnn, hown⟩, hts, hT, hcl⟩ := C
  obtain ⟨own', μ2, host, ⟨b1, b2, b3, b4⟩, g2, g3⟩ := zcN_at_ok hx
  cases Option.some.inj (b1.symm.trans hnn)
  cases Option.some.inj (b2.symm.trans hμ)
  obtain ⟨m1, m2, m3⟩ := zML_good _ (List.mem_of_getElem? hμ)
  exact vx_runSN (n := x.2) (host := host) ⟨hx0, hb, hml, hown, hts⟩ hM ⟨va_cnB x.2 hts (lw_meth (zk_code (x := x) hμ hh)) rfl rfl rfl (hT.2.1.2.1 _ _ _ _ g2) (hts _ b4) ⟨m2.1, m2.2, b3⟩ ⟨hfr, by show 8 + (μ'.2.2.1 + 11) + 64 * d ≤ R.locals; omega⟩, hts _ g3, trivial⟩ (zk_pre hT hP hz hn0 hS) rfl hn hsz rfl (lv_room hcat) hd ⟨hc0, hs0⟩
theorem zr_I (K : zCal g p R s m args meth c μ own H locs cells slots ls σ d mc ms rest) (hx : zcI_at own idx = some x) (hμ : zML[x.1]? = some μ') (hh : μ'.2.2.2.2 = []) (hret : μ'.2.2.2.1 = none) (hL : μ'.2.2.1 ≤ 45) (hM : zMet g l μ' d (.ref b :: As) σ Qc XC mc ms) (hn : As.length = x.2) (hd : decode μ.2.1 pc = .ok (.invokespecial idx, 3)) :
    vx_Run p l e R s m args below meth c H locs cells slots mc ms (F0 m pc ls (As.reverse ++ .ref b :: rest)) rest (Qc (Value.ref b :: As).toArray) XC (zA g) := by
  obtain ⟨C, hP, hz, hn0, hS, hsz, hcat, hfr, hlo, hc0, hs0⟩ := K
  unfold zMet at hM
  rw [zws_nil hh] at hM
  exact zk_runI C hx hμ hh hret hL hM hP hz hn0 hS hsz hn hcat hfr hlo hc0 hs0 hd
/-- Supplier's constructor, private, out of Foundrymark -/
theorem zr_IN (K : zCal g p R s m args meth c μ 0 H locs cells slots ls σ d mc ms rest) (hM : zMet g l zm4 d [.ref b] σ Qc XC mc ms) (hd : decode μ.2.1 pc = .ok (.invokespecial 46, 3)) :
    vx_Run p l e R s m args below meth c H locs cells slots mc ms (F0 m pc ls (.ref b :: rest)) rest (Qc [Value.ref b].toArray) XC (zA g) := by
  obtain ⟨C, hP, hz, hn0, hS, hsz, hcat, hfr, hlo, hc0, hs0⟩ := K
  unfold zMet at hM
  rw [zws_nil (show zm4.2.2.2.2 = [] from rfl)] at hM
  obtain ⟨hx0, hb, hml, hr, hlk, hnm, ⟨nm, hnn, hown⟩, hts, hT, hcl⟩ := C
  cases Option.some.inj ((show zcn[0]? = some "Foundrymark" from rfl).symm.trans hnn)
  have hμ : zML[4]? = some zm4 := rfl
  obtain ⟨m1, m2, m3⟩ := zML_good _ (List.mem_of_getElem? hμ)
  have hcode := zk_code (x := (4, 0)) hμ rfl
  have h45 : zm4.2.2.1 ≤ 45 := by decide
  exact vx_runIN (n := 0) (As := []) (host := "Foundrymark") ⟨hx0, hb, hml, hown, hts⟩ hM ⟨va_cnB 0 hts (lw_meth hcode) rfl rfl rfl (hT.2.1.2.1 _ _ _ _ q130) (hts _ q44) ⟨m2.1, m2.2, by decide +kernel⟩ ⟨hfr, by show 8 + (zm4.2.2.1 + 11) + 64 * d ≤ R.locals; omega⟩, rfl, hts _ q131⟩ (zk_pre hT hP hz hn0 hS) rfl rfl hsz rfl (lv_room hcat) hd ⟨hc0, hs0⟩
theorem zr_V (hg : zWf g) (K : zCal g p R s m args meth c μ own H locs cells slots ls σ d mc ms rest) (hx : zcV_at own idx = some x) (hμ : zML[x.1]? = some μ') (hL : μ'.2.2.1 ≤ 45) (hM : zMet g l μ' d (.ref b :: As) σ Qc XC mc ms) (hrc : zrc g σ b = some μ'.1.cls) (hn : As.length = x.2) (hd : decode μ.2.1 pc = .ok (.invokevirtual idx, 3)) :
    vx_Run p l e R s m args below meth c H locs cells slots mc ms (F0 m pc ls (As.reverse ++ .ref b :: rest)) rest (Qc (Value.ref b :: As).toArray) XC (zA g) := by
  obtain ⟨C, hP, hz, hn0, hS, hsz, hcat, hfr, hlo, hc0, hs0⟩ := K
  have hrc2 := zrc_ok hg C.2.2.2.2.2.2.2.2.1 hP hS hrc
  by_cases hh : μ'.2.2.2.2 = []
  · unfold zMet at hM
    rw [zws_nil hh] at hM
    exact zk_runV C hx hμ hh hL hM hrc2 hP hz hn0 hS hsz hn hcat hfr hlo hc0 hs0 hd
  · unfold zMet at hM
    rw [zws_ne hh] at hM
    obtain ⟨hx0, hb, hml, hr, hlk, hnm, ⟨nm, hnn, hown⟩, hts, hT, hcl⟩ := C
    obtain ⟨own', μ2, ⟨b1, b2, b3, b4⟩, g2, g3, g4⟩ := zcV_at_ok hx
    cases Option.some.inj (b1.symm.trans hnn)
    cases Option.some.inj (b2.symm.trans hμ)
    obtain ⟨m1, m2, m3⟩ := zML_good _ (List.mem_of_getElem? hμ)
    obtain ⟨p1, p2⟩ := zk_pre (As := .ref b :: As) hT hP hz hn0 hS
    exact vx_runVX (n := x.2) (C := μ'.1.cls) ⟨hx0, hb, hml, hown, hts⟩ hM (vx_cwVW x.2 hts (lw_VW g2 g3 g4 b4 (zr_codeW (x := x) hμ hh)) rfl rfl rfl ⟨rfl, m2.1, m2.2, b3⟩ ⟨hfr, by show 8 + (μ'.2.2.1 + 11) + 64 * d ≤ R.locals; omega⟩) ⟨p1, hrc2, p2⟩ rfl hn hsz rfl (lv_room hcat) hd ⟨hc0, hs0⟩
theorem zr_U (hg : zWf g) (K : zCal g p R s m args meth c μ own H locs cells slots ls σ d mc ms rest) (hx : zu_at own idx Cn = some x) (hμ : zML[x.1]? = some μ') (hL : μ'.2.2.1 ≤ 45) (hM : zMet g l μ' d (.ref b :: As) σ Qc XC mc ms) (hrc : zrc g σ b = some Cn) (hn : As.length = x.2) (hd : decode μ.2.1 pc = .ok (.invokevirtual idx, 3)) :
    vx_Run p l e R s m args below meth c H locs cells slots mc ms (F0 m pc ls (As.reverse ++ .ref b :: rest)) rest (Qc (Value.ref b :: As).toArray) XC (zA g) := by
  obtain ⟨C, hP, hz, hn0, hS, hsz, hcat, hfr, hlo, hc0, hs0⟩ := K
  have hrc2 := zrc_ok hg C.2.2.2.2.2.2.2.2.1 hP hS hrc
  obtain ⟨nm, owner, μ2, y, b1, b2, hh, b3, ⟨g1, g2, g3, g4, g5⟩, g6⟩ := zu_at_ok hx
  obtain ⟨hx0, hb, hml, hr, hlk, hnm, ⟨own', hnn, hown⟩, hts, hT, hcl⟩ := C
  cases Option.some.inj (b1.symm.trans hnn)
  cases Option.some.inj (b2.symm.trans hμ)
  unfold zMet at hM
  rw [zws_nil hh] at hM
  obtain ⟨p1, p2⟩ := zk_pre (As := .ref b :: As) hT hP hz hn0 hS
  have hG : GoodIn lw_all (va_wsU nm idx Cn owner y μ'.1 (ws_ μ'.1 μ'.2.1 μ'.2.2.1 μ'.2.2.2.1)) := by
    refine lw_app ?_ (lw_meth (zk_code (x := x) hμ hh))
    intro w hw
    simp only [List.mem_cons, List.not_mem_nil, or_false] at hw
    rcases hw with e1 | e1 | e1 | e1 | e1
    · rw [e1]; exact g1
    · rw [e1]; exact g2
    · rw [e1]; exact g3
    · rw [e1]; exact g4
    · rw [e1]; exact g5
  have hR : d + 1 ≤ R.frames ∧ 8 + (μ'.2.2.1 + 11) + 64 * d ≤ R.locals := ⟨hfr, by omega⟩
  have cw : va_CU R s args nm Cn owner idx y μ'.1 μ'.2.1 μ'.2.2.1 μ'.2.2.2.1 (ws_ μ'.1 μ'.2.1 μ'.2.2.1 μ'.2.2.2.1) ({ frames := d, cells := mc, slots := ms, locals := 64 * d } : Room) mc ms x.2 := by
    rcases g6 with g6 | g6
    · exact va_cwU x.2 hts hG rfl rfl rfl g6 b3 hR
    · exact va_cwA x.2 hts hG rfl rfl rfl (hT.2.1.2.2.2.1 _ g6) b3 hR
  exact vx_runU (n := x.2) ⟨hx0, hb, hml, hown, hts⟩ hM cw ⟨p1, hrc2, p2⟩ rfl hn hsz rfl (lv_room hcat) hd ⟨hc0, hs0⟩
theorem zr_F (hj : ∀ q ∈ zji, q ∈ zg_f g) (K : zCal g p R s m args meth c μ own H locs cells slots ls σ d mc ms rest) (hx : zj_at own idx ci = some x) (hμ : zML[x.1]? = some μ') (hh : μ'.2.2.2.2 = []) (hL : μ'.2.2.1 ≤ 45) (hM : zMet g l μ' d (.ref b :: As) σ Qc XC mc ms) (hw : σ.1 b = some (.inr (ci, fs))) (hn : As.length = x.2) (hd : decode μ.2.1 pc = .ok (.invokeinterface idx count, 5)) :
    vx_Run5 p l e R s m args below meth c H locs cells slots mc ms (F0 m pc ls (As.reverse ++ .ref b :: rest)) rest (Qc (Value.ref b :: As).toArray) XC (zA g) := by
  obtain ⟨C, hP, hz, hn0, hS, hsz, hcat, hfr, hlo, hc0, hs0⟩ := K
  unfold zMet at hM
  rw [zws_nil hh] at hM
  obtain ⟨hx0, hb, hml, hr, hlk, hnm, ⟨own', hnn, hown⟩, hts, hT, hcl⟩ := C
  obtain ⟨nm, Cn2, T, N, xm, μ2, b1, b2, b3, b4, b5, b6, b7, b8, b9⟩ := zj_at_ok hx
  cases Option.some.inj (b1.symm.trans hnn)
  cases Option.some.inj (b3.symm.trans hμ)
  have hcode := zk_code (x := x) hμ hh
  obtain ⟨p1, p2⟩ := zk_pre (As := .ref b :: As) hT hP hz hn0 hS
  have hat := hP b _ hw
  have hK := hT.1
  rw [hcl] at hat hK
  have hrc := zk_recv hK hat b2
  have hca := zk_class hK b2
  have hF := (hT.2.1.2.2.2.2.2.1 _ (hj _ b5)).2
  have hG : GoodIn lw_all (va_wsF own' idx Cn2 xm μ'.1 (ws_ μ'.1 μ'.2.1 μ'.2.2.1 μ'.2.2.2.1)) := by
    refine lw_app ?_ (lw_meth hcode)
    intro w hw
    simp only [List.mem_cons, List.not_mem_nil, or_false] at hw
    rcases hw with e1 | e1 | e1 | e1
    · rw [e1]; exact b6
    · rw [e1]; exact b7
    · rw [e1]; exact b8
    · rw [e1]; exact b9
  exact vx_runF (n := x.2) hca ⟨hx0, hb, hml, hown, hts⟩ hM (va_cwF x.2 hts hG rfl rfl rfl hF b4 ⟨hfr, by show 8 + (μ'.2.2.1 + 11) + 64 * d ≤ R.locals; omega⟩) ⟨p1, hrc, p2⟩ rfl hn hsz rfl (lv_room hcat) hd ⟨hc0, hs0⟩
end ZAC
