/-! THE INTERPRETER: static calls of a nest mate (Rule's areGood out of its constants' bodies) -/
section ZCN
variable {p : Program} {l : Launch} {e : Env} {R : Room} {s : State} {m : MethodId} {args : Array Value} {below : List Frame} {meth : Method} {c : Code} {H : Heap} {locs : List Loc} {cells slots : Nat} {Q : State → Prop}
variable {ls : Array Slot} {g : zG} {μ μ' : zMt} {own idx pc d : Nat} {rest As : List Value} {σ σ' : zS} {v : Option Value} {x : Nat × Nat}
theorem zk_callN (C : zCtx g p s m args meth c μ own) (hx : zcN_at own idx = some x) (hμ : zML[x.1]? = some μ') (hh : μ'.2.2.2.2 = []) (hL : μ'.2.2.1 ≤ 45) (hM : zMetR g l μ' d As σ v σ')
    (hP : zw_P (zg_D g) (zg_A g) (zg_cl g) σ.1 H) (hz : H.size = σ.2.1) (hn0 : zg_n g ≤ σ.2.1) (hS : va_S (zA g) s.heap H locs) (hsz : ls.size = μ.2.2.1) (hn : As.length = x.2) (hcat : (rest.map fun v => v.category).sum ≤ 8)
    (hfr : d + 1 ≤ R.frames) (hlo : 64 * (d + 1) ≤ R.locals) (hc0 : cells + (σ'.2.1 - σ.2.1) ≤ R.cells) (hs0 : slots + (σ'.2.2 - σ.2.2) ≤ R.slots) (hd : decode μ.2.1 pc = .ok (.invokestatic idx, 3))
    (kk : ∀ (H1 : Heap) (locs1 : List Loc), zw_P (zg_D g) (zg_A g) (zg_cl g) σ'.1 H1 → H1.size = σ'.2.1 → va_S (zA g) s.heap H1 locs1 → W p l e R s m args below meth c H1 locs1 (cells + (σ'.2.1 - σ.2.1)) (slots + (σ'.2.2 - σ.2.2)) Q (F0 m (pc + 3) ls (v.toList ++ rest))) : W p l e R s m args below meth c H locs cells slots Q (F0 m pc ls (As.reverse ++ rest)) := by
  obtain ⟨hx0, hb, hml, hr, hlk, hnm, ⟨nm, hnn, hown⟩, hts, hT, hcl⟩ := C
  obtain ⟨own', μ2, host, ⟨b1, b2, b3, b4⟩, g2, g3⟩ := zcN_at_ok hx
  cases Option.some.inj (b1.symm.trans hnn)
  cases Option.some.inj (b2.symm.trans hμ)
  obtain ⟨m1, m2, m3⟩ := zML_good _ (List.mem_of_getElem? hμ)
  have hcode := zk_code (x := x) hμ hh
  exact zc_back (vx_runSN (n := x.2) (host := host) ⟨hx0, hb, hml, hown, hts⟩ hM ⟨va_cnB x.2 hts (lw_meth hcode) rfl rfl rfl (hT.2.1.2.1 _ _ _ _ g2) (hts _ b4) ⟨m2.1, m2.2, b3⟩ ⟨hfr, by show 8 + (μ'.2.2.1 + 11) + 64 * d ≤ R.locals; omega⟩, hts _ g3, trivial⟩ (zk_pre hT hP hz hn0 hS) rfl hn hsz rfl (lv_room hcat) hd ⟨hc0, hs0⟩) hS kk
end ZCN
