/-! THE INTERPRETER: calls of methods without handlers, given what the callee does (vx_Met at these arguments and this world) -/
/-- the callee returns v and leaves σ' -/
abbrev zMetR (g : zG) (l : Launch) (μ : zMt) (d : Nat) (As : List Value) (σ : zS) (v : Option Value) (σ' : zS) : Prop :=
  vx_Met l μ.1 (ws_ μ.1 μ.2.1 μ.2.2.1 μ.2.2.2.1) ({ frames := d, cells := σ'.2.1 - σ.2.1, slots := σ'.2.2 - σ.2.2, locals := 64 * d } : Room) (va_Pc As (fun U => zI g σ U)) (zQ g v σ') zX0 (σ'.2.1 - σ.2.1) (σ'.2.2 - σ.2.2) (zA g)
/-- the callee throws an E and leaves σ' -/
abbrev zMetX (g : zG) (l : Launch) (μ : zMt) (d : Nat) (As : List Value) (σ : zS) (E : String) (σ' : zS) : Prop :=
  vx_Met l μ.1 (ws_ μ.1 μ.2.1 μ.2.2.1 μ.2.2.2.1) ({ frames := d, cells := σ'.2.1 - σ.2.1, slots := σ'.2.2 - σ.2.2, locals := 64 * d } : Room) (va_Pc As (fun U => zI g σ U)) zQ0 (zX g E σ') (σ'.2.1 - σ.2.1) (σ'.2.2 - σ.2.2) (zA g)
section ZCR
variable {p : Program} {l : Launch} {e : Env} {R : Room} {s : State} {m : MethodId} {args : Array Value} {below : List Frame} {meth : Method} {c : Code} {H : Heap} {locs : List Loc} {cells slots : Nat} {Q : State → Prop}
variable {ls : Array Slot} {g : zG} {μ μ' : zMt} {own idx pc d : Nat} {rest As : List Value} {σ σ' : zS} {v : Option Value} {x : Nat × Nat}
theorem zk_pre (hT : zT g s) (hP : zw_P (zg_D g) (zg_A g) (zg_cl g) σ.1 H) (hz : H.size = σ.2.1) (hn0 : zg_n g ≤ σ.2.1) (hS : va_S (zA g) s.heap H locs) : PreS s H (va_Pc As (fun U => zI g σ U)) As :=
  ⟨zI.blind, fun U hU hW => ⟨rfl, zI.here hP hz hn0 hT hS hW hU⟩⟩
theorem zk_runS {Qc : Array Value → State → Outcome → State → Prop} {XC : String → State → State → Prop} {mc ms : Nat} (C : zCtx g p s m args meth c μ own) (hx : zcS_at own idx = some x) (hμ : zML[x.1]? = some μ') (hh : μ'.2.2.2.2 = []) (hL : μ'.2.2.1 ≤ 45)
    (hM : vx_Met l μ'.1 (ws_ μ'.1 μ'.2.1 μ'.2.2.1 μ'.2.2.2.1) ({ frames := d, cells := mc, slots := ms, locals := 64 * d } : Room) (va_Pc As (fun U => zI g σ U)) Qc XC mc ms (zA g))
    (hP : zw_P (zg_D g) (zg_A g) (zg_cl g) σ.1 H) (hz : H.size = σ.2.1) (hn0 : zg_n g ≤ σ.2.1) (hS : va_S (zA g) s.heap H locs) (hsz : ls.size = μ.2.2.1) (hn : As.length = x.2) (hcat : (rest.map fun v => v.category).sum ≤ 8)
    (hfr : d + 1 ≤ R.frames) (hlo : 64 * (d + 1) ≤ R.locals) (hc0 : cells + mc ≤ R.cells) (hs0 : slots + ms ≤ R.slots) (hd : decode μ.2.1 pc = .ok (.invokestatic idx, 3)) :
    vx_Run p l e R s m args below meth c H locs cells slots mc ms (F0 m pc ls (As.reverse ++ rest)) rest (Qc As.toArray) XC (zA g) := by
  obtain ⟨hx0, hb, hml, hr, hlk, hnm, ⟨nm, hnn, hown⟩, hts, hT, hcl⟩ := C
  obtain ⟨own', μ2, ⟨b1, b2, b3, b4⟩, g2, g3⟩ := zcS_at_ok hx
  cases Option.some.inj (b1.symm.trans hnn)
  cases Option.some.inj (b2.symm.trans hμ)
  obtain ⟨m1, m2, m3⟩ := zML_good _ (List.mem_of_getElem? hμ)
  have hcode : Cond.code μ'.1 μ'.2.1 μ'.2.2.1 μ'.2.2.2.1 ∈ lw_all := by
    rcases m3 with m3 | m3
    · exact m3.2
    · exact absurd hh m3.1
  exact vx_runS (n := x.2) ⟨hx0, hb, hml, hown, hts⟩ hM (va_cwS x.2 hts (lw_S g2 g3 b4 hcode) rfl rfl rfl ⟨m2.1, m2.2, b3⟩ ⟨hfr, by show 8 + (μ'.2.2.1 + 11) + 64 * d ≤ R.locals; omega⟩) (zk_pre hT hP hz hn0 hS) rfl hn hsz rfl (lv_room hcat) hd ⟨hc0, hs0⟩
theorem zk_callS (C : zCtx g p s m args meth c μ own) (hx : zcS_at own idx = some x) (hμ : zML[x.1]? = some μ') (hh : μ'.2.2.2.2 = []) (hL : μ'.2.2.1 ≤ 45) (hM : zMetR g l μ' d As σ v σ')
    (hP : zw_P (zg_D g) (zg_A g) (zg_cl g) σ.1 H) (hz : H.size = σ.2.1) (hn0 : zg_n g ≤ σ.2.1) (hS : va_S (zA g) s.heap H locs) (hsz : ls.size = μ.2.2.1) (hn : As.length = x.2) (hcat : (rest.map fun v => v.category).sum ≤ 8)
    (hfr : d + 1 ≤ R.frames) (hlo : 64 * (d + 1) ≤ R.locals) (hc0 : cells + (σ'.2.1 - σ.2.1) ≤ R.cells) (hs0 : slots + (σ'.2.2 - σ.2.2) ≤ R.slots) (hd : decode μ.2.1 pc = .ok (.invokestatic idx, 3))
    (kk : ∀ (H1 : Heap) (locs1 : List Loc), zw_P (zg_D g) (zg_A g) (zg_cl g) σ'.1 H1 → H1.size = σ'.2.1 → va_S (zA g) s.heap H1 locs1 → W p l e R s m args below meth c H1 locs1 (cells + (σ'.2.1 - σ.2.1)) (slots + (σ'.2.2 - σ.2.2)) Q (F0 m (pc + 3) ls (v.toList ++ rest))) : W p l e R s m args below meth c H locs cells slots Q (F0 m pc ls (As.reverse ++ rest)) :=
  zc_back (zk_runS C hx hμ hh hL hM hP hz hn0 hS hsz hn hcat hfr hlo hc0 hs0 hd) hS kk
end ZCR
