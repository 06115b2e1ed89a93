/-! 'throw new Lack(null)': zlack holds where no traces are kept -/
set_option maxRecDepth 100000
section ZLZ
variable {p : Program} {l : Launch} {e : Env} {R : Room} {s : State} {m : MethodId} {args : Array Value} {below : List Frame} {meth : Method} {c : Code} {H : Heap} {locs : List Loc} {cells slots : Nat}
/-- vx_runI with one word more on the stack -/
theorem zk_run9 {y : MethodName} {bytes cc : ByteArray} {maxL nL mc ms n index : Nat} {ws : List Cond} {rm : Room} {Pc : Array Value → State → Prop} {Qc : Array Value → State → Outcome → State → Prop} {XC : String → State → State → Prop} {free : Addr → Prop} {own : String} {Ts : List Cond} {b : Nat} {As rest : List Value} {g : JFrame}
    (S : CallFix p m c cc nL s args Ts own) (hM : vx_Met l y ws rm Pc Qc XC mc ms free) (cw : CallB R s args own index y bytes maxL none ws rm mc ms n ∧ y.name = "<init>" ∧ (Cond.instanceMethod y).before args s = true) (hlo9 : 9 + (maxL + 11) + rm.locals ≤ R.locals) (hp : PreS s H Pc (.ref b :: As))
    (hg : g.method = m) (hn : As.length = n) (hsize : g.locals.size = nL) (hstack : g.stack = As.reverse ++ .ref b :: rest) (hW : 2 * g.monitorRoom + (rest.map fun v => v.category).sum ≤ 9) (hdg : decode cc g.pc = .ok (.invokespecial index, 3)) (hf : cells + mc ≤ R.cells ∧ slots + ms ≤ R.slots) :
    vx_Run p l e R s m args below meth c H locs cells slots mc ms g rest (Qc (Value.ref b :: As).toArray) XC free := by
  obtain ⟨⟨hrc, hrs, hfr, hlo, hws, hcw, hcode, hini, hy, hlen, hl⟩, hy1, hin⟩ := cw
  have hK : vx_Back l R p e below s args y 3 9 (PreOf R mc ms Pc) (PostOf Qc mc ms free) (vx_Post XC mc ms free) :=
    vx_back (bytes := bytes) (maxL := maxL) (ret := none) hM hp.1 hrc hrs hfr hlo9 hws hcw (fun a' U hW => word_at hW (Or.inl (by first | rfl | simp [Cond.onTables, Cond.keeps, Cond.steady])) hini)
  obtain ⟨hx, hb, hml, ho, -⟩ := S
  have hPc := hp.2
  intro T hT X
  rcases vx_callI X hx (bytes := bytes) (maxL := maxL) ho hy1 hl hin hcode hy hK hg (hsize.trans hml.symm) (a := b) (argsL := As) (rest := rest) (fun sig h => hn.trans (hlen sig h)) hstack hW (by rw [hb]; exact hdg)
    (fun vm₁ hW₁ => ⟨hf.1, hf.2, hPc (T.setVm vm₁) hT hW₁⟩) with ⟨v, vm₁, ⟨U', l2, c2, s2⟩, hW₁, X', ⟨g', mk, t, L, e1, e2, hq, h1, hL, h2, h3⟩, st⟩ | ⟨q, vm₁, ⟨U', l2, c2, s2⟩, hW₁, X', ⟨g', mk, t, L, E, ce, e1, e2, hq, hce, hcv, hcl, h1, hL, h2, h3⟩, st⟩
  · dsimp only [Pt.U, Pt.locs, Pt.cells, Pt.slots] at X' e1 e2 h1 h2 h3 st
    subst h1; subst h2; subst h3
    exact Or.inl ⟨v, (T.setVm vm₁).calling g' mk (Value.ref b :: As).toArray, t, U', L, hT, X', hL, e1, e2, hq, st⟩
  · dsimp only [Pt.U, Pt.locs, Pt.cells, Pt.slots] at X' e1 e2 h1 h2 h3 st hcl
    subst h1; subst h2; subst h3
    exact Or.inr ⟨q, (T.setVm vm₁).calling g' mk (Value.ref b :: As).toArray, t, U', L, E, ce, hT, X', hL, e1, e2, hq, hce, hcv, vx_cls hW₁ hcl, st⟩
end ZLZ
set_option maxHeartbeats 4000000 in
theorem zlack_ok {l : Launch} (hl : l.stackTraces = false) : zlack l := by
  intro p e R s m args below meth c H locs cells slots Q ls g μ own pc ik ic rest σ C hg how hsize hcat hfr hlo hP hz hn0 hS hce hsl d0 d3 d4 d5 d8 kk
  obtain ⟨hx, hb, hml, hr, hlk, hnm, ⟨nm, hn, hown⟩, hts, hT, hcl⟩ := C
  obtain ⟨w1, w2⟩ : Cond.classLink nm ik zkL ∈ lw_all ∧ Cond.methodLink nm ic zkLa ∈ lw_all := by
    rcases how with ⟨rfl, rfl, rfl⟩ | ⟨rfl, rfl, rfl⟩
    · obtain rfl : "Foundrymark" = nm := Option.some.inj ((show zcn[0]? = some "Foundrymark" from rfl).symm.trans hn)
      exact ⟨q1051, q1089⟩
    · obtain rfl : "Foundrymark$Lot" = nm := Option.some.inj ((show zcn[13]? = some "Foundrymark$Lot" from rfl).symm.trans hn)
      exact ⟨q1121, q1122⟩
  refine W.newc hx hb hown (hts _ w1) (hts _ q1081) (hts _ q85) (g := F0 m pc ls rest) rfl d0 hce hsl (fun cC kC h1 h2 h3 h4 => ?_)
  have hna : zg_n g ≤ H.size := by rw [hz]; exact hn0
  have hA : zA g H.size := hna
  have hcell : (H.push { cls := cC, slots := kC.instanceTypes.map defaultValue, vm := .none })[H.size]? = some (freshCell cC kC) := by rw [Array.getElem?_push_size]
  have hot : ∀ q : Nat, q < H.size → (H.push ({ cls := cC, slots := kC.instanceTypes.map defaultValue, vm := .none } : Cell))[q]? = H[q]? := fun q hq => by
    rw [Array.getElem?_push, if_neg (by omega)]
  have hsz1 : (H.push ({ cls := cC, slots := kC.instanceTypes.map defaultValue, vm := .none } : Cell)).size = H.size + 1 := Array.size_push _
  generalize H.push ({ cls := cC, slots := kC.instanceTypes.map defaultValue, vm := .none } : Cell) = H1 at hcell hot hsz1 ⊢
  have hS1 : va_S (zA g) s.heap H1 locs := ⟨by rw [hsz1]; exact Nat.le_succ_of_le hS.1, fun q q1 q2 => (hot q (Nat.lt_of_lt_of_le q1 hS.1)).trans (hS.2.1 q q1 q2), hS.2.2⟩
  have d3' : decode c.code (pc + 3) = .ok (.dup, 1) := by rw [hb]; exact d3
  have d4' : decode c.code (pc + 3 + 1) = .ok (.aconst_null, 1) := by rw [hb]; exact d4
  refine W.of (H' := H1) (locs' := locs) (cells' := cells + 1) (slots' := slots + 6) (g2 := F0 m (pc + 5) ls (.null :: .ref H.size :: .ref H.size :: rest)) (fun T hT1 X => ⟨T, hT1, X, fun tg h => ?_⟩) ?_
  · show Steps p.tables e below (T.setTop { method := m, pc := pc + 3, locals := ls, stack := .ref H.size :: rest, locked := none }) _
    jvm_step X.here [X.here.top, hx, d3', Value.category]
    jvm_step X.here [X.here.top, hx, d4', Value.category]
    exact h
  have hback : ∀ (c9 : ClassId) (k : Class) (i : Nat) (f : Field), s.fieldFound? Bundle.tN "backtrace" "Ljava/lang/Object;" = some (c9, k, i, f) → (freshCell cC kC).slots[f.slot]? = some .null := fun c9 k i f hf => by
    obtain ⟨tyB, dB, -, -⟩ := Cond.laysAt h1 h2 hf (hts _ q1088)
    have ht := (State.fieldFound?_type hf (t := .object "java/lang/Object") (by decide +kernel)).2
    have h9 := fresh_default (c := cC) tyB
    rw [ht] at h9
    exact h9
  refine zk_go (a := H.size) (ar := [Value.ref H.size, .null].toArray) (rest := .ref H.size :: rest) (zk_run9 (n := 1) (As := [.null]) (b := H.size) (g := F0 m (pc + 5) ls (.null :: .ref H.size :: .ref H.size :: rest)) (rest := .ref H.size :: rest) ⟨hx, hb, hml, hown, hts⟩ (zk_laMet hl) (cwI 1 hts (lw_meth q1091) rfl rfl rfl (hts _ q85) (hts _ w2) (hts _ q1090) rfl ⟨by decide, by decide, by decide +kernel⟩ ⟨by show 5 + 1 ≤ R.frames; omega, by show 8 + (2 + 11) + 86 ≤ R.locals; omega⟩) (by show 9 + (2 + 11) + 86 ≤ R.locals; omega)
    (zk_preB hT hna hcell rfl rfl h1 h2 h3 (by show (kC.instanceTypes.map defaultValue).size = _; rw [Array.size_map]) hback hS1) rfl rfl hsize rfl (by show 2 * 0 + ((Value.ref H.size).category + (rest.map fun v => v.category).sum) ≤ 9; have e1 : (Value.ref H.size).category = 1 := rfl; omega) d5 ⟨hce, hsl⟩) hS1 hA (fun H2 locs2 z1 z2 z3 z4 => ?_)
  obtain ⟨c0, ce, y1, y2, y3, y4⟩ := z3
  cases Option.some.inj (y1.symm.trans hcell)
  have hlt : ∀ q : Nat, q < H.size → H2[q]? = H[q]? := fun q hq => (z2 q (by omega)).trans (hot q hq)
  refine vx_athrow hx hb d8 (kk _ ce H2 locs2 (fun b x hb9 => (hP b x hb9).kept (hlt b (hP.lt hb9))) (by rw [z1, hsz1, hz]) z4 y2 y3 (by rw [y4]; exact h1))
