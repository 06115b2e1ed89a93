/-! THE INTERPRETER: constructors and virtual calls of methods without handlers -/
section ZCI
variable {p : Program} {l : Launch} {e : Env} {R : Room} {s : State} {m : MethodId} {args : Array Value} {below : List Frame} {meth : Method} {c : Code} {H : Heap} {locs : List Loc} {cells slots : Nat} {Q : State → Prop}
variable {ls : Array Slot} {g : zG} {μ μ' : zMt} {own idx pc d b : Nat} {rest As : List Value} {σ σ' : zS} {v : Option Value} {x : Nat × Nat}
theorem zk_code (hμ : zML[x.1]? = some μ') (hh : μ'.2.2.2.2 = []) : Cond.code μ'.1 μ'.2.1 μ'.2.2.1 μ'.2.2.2.1 ∈ lw_all := by
  obtain ⟨m1, m2, m3⟩ := zML_good _ (List.mem_of_getElem? hμ)
  rcases m3 with m3 | m3
  · exact m3.2
  · exact absurd hh m3.1
theorem zk_runI {Qc : Array Value → State → Outcome → State → Prop} {XC : String → State → State → Prop} {mc ms : Nat} (C : zCtx g p s m args meth c μ own) (hx : zcI_at own idx = some x) (hμ : zML[x.1]? = some μ') (hh : μ'.2.2.2.2 = []) (hret : μ'.2.2.2.1 = none) (hL : μ'.2.2.1 ≤ 45)
    (hM : vx_Met l μ'.1 (ws_ μ'.1 μ'.2.1 μ'.2.2.1 μ'.2.2.2.1) ({ frames := d, cells := mc, slots := ms, locals := 64 * d } : Room) (va_Pc (.ref b :: As) (fun U => zI g σ U)) Qc XC mc ms (zA g))
    (hP : zw_P (zg_D g) (zg_A g) (zg_cl g) σ.1 H) (hz : H.size = σ.2.1) (hn0 : zg_n g ≤ σ.2.1) (hS : va_S (zA g) s.heap H locs) (hsz : ls.size = μ.2.2.1) (hn : As.length = x.2) (hcat : (rest.map fun v => v.category).sum ≤ 8)
    (hfr : d + 1 ≤ R.frames) (hlo : 64 * (d + 1) ≤ R.locals) (hc0 : cells + mc ≤ R.cells) (hs0 : slots + ms ≤ R.slots) (hd : decode μ.2.1 pc = .ok (.invokespecial idx, 3)) :
    vx_Run p l e R s m args below meth c H locs cells slots mc ms (F0 m pc ls (As.reverse ++ .ref b :: rest)) rest (Qc (Value.ref b :: As).toArray) XC (zA g) := by
  obtain ⟨hx0, hb, hml, hr, hlk, hnm, ⟨nm, hnn, hown⟩, hts, hT, hcl⟩ := C
  obtain ⟨own', μ2, ⟨b1, b2, b3, b4⟩, g2, g3, g4⟩ := zcI_at_ok hx
  cases Option.some.inj (b1.symm.trans hnn)
  cases Option.some.inj (b2.symm.trans hμ)
  obtain ⟨m1, m2, m3⟩ := zML_good _ (List.mem_of_getElem? hμ)
  have hcode := zk_code (x := x) hμ hh
  rw [hret] at hcode hM
  exact vx_runI (n := x.2) ⟨hx0, hb, hml, hown, hts⟩ hM (cwI x.2 hts (lw_meth hcode) rfl rfl rfl (hts _ b4) (hts _ g2) (hts _ g3) g4 ⟨m2.1, m2.2, b3⟩ ⟨hfr, by show 8 + (μ'.2.2.1 + 11) + 64 * d ≤ R.locals; omega⟩) (zk_pre hT hP hz hn0 hS) rfl hn hsz rfl (lv_room hcat) hd ⟨hc0, hs0⟩
theorem zk_callI (C : zCtx g p s m args meth c μ own) (hx : zcI_at own idx = some x) (hμ : zML[x.1]? = some μ') (hh : μ'.2.2.2.2 = []) (hret : μ'.2.2.2.1 = none) (hL : μ'.2.2.1 ≤ 45) (hM : zMetR g l μ' d (.ref b :: As) σ none σ')
    (hP : zw_P (zg_D g) (zg_A g) (zg_cl g) σ.1 H) (hz : H.size = σ.2.1) (hn0 : zg_n g ≤ σ.2.1) (hS : va_S (zA g) s.heap H locs) (hsz : ls.size = μ.2.2.1) (hn : As.length = x.2) (hcat : (rest.map fun v => v.category).sum ≤ 8)
    (hfr : d + 1 ≤ R.frames) (hlo : 64 * (d + 1) ≤ R.locals) (hc0 : cells + (σ'.2.1 - σ.2.1) ≤ R.cells) (hs0 : slots + (σ'.2.2 - σ.2.2) ≤ R.slots) (hd : decode μ.2.1 pc = .ok (.invokespecial idx, 3))
    (kk : ∀ (H1 : Heap) (locs1 : List Loc), zw_P (zg_D g) (zg_A g) (zg_cl g) σ'.1 H1 → H1.size = σ'.2.1 → va_S (zA g) s.heap H1 locs1 → W p l e R s m args below meth c H1 locs1 (cells + (σ'.2.1 - σ.2.1)) (slots + (σ'.2.2 - σ.2.2)) Q (F0 m (pc + 3) ls rest)) : W p l e R s m args below meth c H locs cells slots Q (F0 m pc ls (As.reverse ++ .ref b :: rest)) :=
  zc_back (v := none) (zk_runI C hx hμ hh hret hL hM hP hz hn0 hS hsz hn hcat hfr hlo hc0 hs0 hd) hS kk
theorem zk_runV {Qc : Array Value → State → Outcome → State → Prop} {XC : String → State → State → Prop} {mc ms : Nat} (C : zCtx g p s m args meth c μ own) (hx : zcV_at own idx = some x) (hμ : zML[x.1]? = some μ') (hh : μ'.2.2.2.2 = []) (hL : μ'.2.2.1 ≤ 45)
    (hM : vx_Met l μ'.1 (ws_ μ'.1 μ'.2.1 μ'.2.2.1 μ'.2.2.2.1) ({ frames := d, cells := mc, slots := ms, locals := 64 * d } : Room) (va_Pc (.ref b :: As) (fun U => zI g σ U)) Qc XC mc ms (zA g))
    (hrc : ∃ cell : Cell, H[b]? = some cell ∧ cell.vm.isStatics = false ∧ s.vm.findClass μ'.1.cls = some cell.cls)
    (hP : zw_P (zg_D g) (zg_A g) (zg_cl g) σ.1 H) (hz : H.size = σ.2.1) (hn0 : zg_n g ≤ σ.2.1) (hS : va_S (zA g) s.heap H locs) (hsz : ls.size = μ.2.2.1) (hn : As.length = x.2) (hcat : (rest.map fun v => v.category).sum ≤ 8)
    (hfr : d + 1 ≤ R.frames) (hlo : 64 * (d + 1) ≤ R.locals) (hc0 : cells + mc ≤ R.cells) (hs0 : slots + ms ≤ R.slots) (hd : decode μ.2.1 pc = .ok (.invokevirtual idx, 3)) :
    vx_Run p l e R s m args below meth c H locs cells slots mc ms (F0 m pc ls (As.reverse ++ .ref b :: rest)) rest (Qc (Value.ref b :: As).toArray) XC (zA g) := by
  obtain ⟨hx0, hb, hml, hr, hlk, hnm, ⟨nm, hnn, hown⟩, hts, hT, hcl⟩ := C
  obtain ⟨own', μ2, ⟨b1, b2, b3, b4⟩, g2, g3, g4⟩ := zcV_at_ok hx
  cases Option.some.inj (b1.symm.trans hnn)
  cases Option.some.inj (b2.symm.trans hμ)
  obtain ⟨m1, m2, m3⟩ := zML_good _ (List.mem_of_getElem? hμ)
  have hcode := zk_code (x := x) hμ hh
  obtain ⟨p1, p2⟩ := zk_pre (As := .ref b :: As) hT hP hz hn0 hS
  exact vx_runV (n := x.2) (C := μ'.1.cls) ⟨hx0, hb, hml, hown, hts⟩ hM (cwV x.2 hts (lw_V g2 g3 g4 b4 hcode) rfl rfl rfl ⟨rfl, m2.1, m2.2, b3⟩ ⟨hfr, by show 8 + (μ'.2.2.1 + 11) + 64 * d ≤ R.locals; omega⟩) ⟨p1, hrc, p2⟩ rfl hn hsz rfl (lv_room hcat) hd ⟨hc0, hs0⟩
theorem zk_callV (C : zCtx g p s m args meth c μ own) (hx : zcV_at own idx = some x) (hμ : zML[x.1]? = some μ') (hh : μ'.2.2.2.2 = []) (hL : μ'.2.2.1 ≤ 45) (hM : zMetR g l μ' d (.ref b :: As) σ v σ')
    (hrc : ∃ cell : Cell, H[b]? = some cell ∧ cell.vm.isStatics = false ∧ s.vm.findClass μ'.1.cls = some cell.cls)
    (hP : zw_P (zg_D g) (zg_A g) (zg_cl g) σ.1 H) (hz : H.size = σ.2.1) (hn0 : zg_n g ≤ σ.2.1) (hS : va_S (zA g) s.heap H locs) (hsz : ls.size = μ.2.2.1) (hn : As.length = x.2) (hcat : (rest.map fun v => v.category).sum ≤ 8)
    (hfr : d + 1 ≤ R.frames) (hlo : 64 * (d + 1) ≤ R.locals) (hc0 : cells + (σ'.2.1 - σ.2.1) ≤ R.cells) (hs0 : slots + (σ'.2.2 - σ.2.2) ≤ R.slots) (hd : decode μ.2.1 pc = .ok (.invokevirtual idx, 3))
    (kk : ∀ (H1 : Heap) (locs1 : List Loc), zw_P (zg_D g) (zg_A g) (zg_cl g) σ'.1 H1 → H1.size = σ'.2.1 → va_S (zA g) s.heap H1 locs1 → W p l e R s m args below meth c H1 locs1 (cells + (σ'.2.1 - σ.2.1)) (slots + (σ'.2.2 - σ.2.2)) Q (F0 m (pc + 3) ls (v.toList ++ rest))) : W p l e R s m args below meth c H locs cells slots Q (F0 m pc ls (As.reverse ++ .ref b :: rest)) :=
  zc_back (zk_runV C hx hμ hh hL hM hrc hP hz hn0 hS hsz hn hcat hfr hlo hc0 hs0 hd) hS kk
end ZCI
