/-! RUNS BY THEIR ENDS: zW says that a run ends, and how; rows over the abstract heap -/
set_option maxRecDepth 100000
def zW (g : zG) (d k pc : Nat) (lv : zp_L) (st : List Value) (σ : zS) (Q : Option Value ⊕ String → zS → Prop) : Prop := ∃ (o : Option Value ⊕ String) (σ' : zS), zR g d k pc lv st σ (o, σ') ∧ Q o σ'
/-- a method's run from its entry -/
abbrev zM (g : zG) (d k : Nat) (As : List Value) (σ : zS) (Q : Option Value ⊕ String → zS → Prop) : Prop := zW g d k 0 (lv_args 0 As) [] σ Q
section ZWP
variable {g : zG} {d d' k pc len : Nat} {lv : zp_L} {st : List Value} {σ : zS} {Q Q' : Option Value ⊕ String → zS → Prop} {i : Instr}
theorem zW.mono (h : zW g d k pc lv st σ Q) (hq : ∀ o σ', zle σ σ' → Q o σ' → Q' o σ') : zW g d k pc lv st σ Q' := by
  obtain ⟨o, σ', ⟨n, hn⟩, h2⟩ := h
  exact ⟨o, σ', ⟨n, hn⟩, hq o σ' (zx_mono g n d k pc lv st σ o σ' hn) h2⟩
theorem zW.deep (h : zW g d k pc lv st σ Q) (hd : d ≤ d') : zW g d' k pc lv st σ Q := by
  obtain ⟨o, σ', h1, h2⟩ := h
  exact ⟨o, σ', h1.deep hd, h2⟩
theorem zW_ps (m : Nat) {f : zp_F} (h : zps k m pc lv st = some f) (hr : zW g d k f.1 f.2.1 f.2.2 σ Q) : zW g d k pc lv st σ Q := by
  obtain ⟨o, σ', h1, h2⟩ := hr
  exact ⟨o, σ', zR_ps m h h1, h2⟩
theorem zW_heap {f : zp_F × zS} (hx : r_i k pc = some (i, len)) (hp : zp_step i len pc (r_l k) lv st = none) (hh : zheap g (r_o k) (r_m k).1.name (r_c k) i len pc lv st σ = some (.inl f)) (hr : zW g d k f.1.1 f.1.2.1 f.1.2.2 f.2 Q) : zW g d k pc lv st σ Q := by
  obtain ⟨o, σ', h1, h2⟩ := hr
  exact ⟨o, σ', zR_heap hx hp hh h1, h2⟩
theorem zW_reti {v : Int32} {ty : FieldType} (hx : r_i k pc = some (.ireturn, 1)) (ht : (r_m k).2.2.2.1 = some ty) (hn : narrow ty (.int v) = .int v) (hq : Q (.inl (some (.int v))) σ) : zW g d k pc lv [.int v] σ Q := ⟨_, _, zR_reti hx ht hn, hq⟩
theorem zW_ret {v : Option Value} (hx : r_i k pc = some (i, len)) (hp : zp_step i len pc (r_l k) lv st = none) (hh : zheap g (r_o k) (r_m k).1.name (r_c k) i len pc lv st σ = none) (hr : zr_ret i len st (r_m k).2.2.2.1 = some v) (hq : Q (.inl v) σ) : zW g d k pc lv st σ Q := ⟨_, _, zR_ret hx hp hh hr, hq⟩
/-- a call of a method that returns -/
theorem zW_call {y : Nat × List Value × List Value × Nat} {μ' : zMt} {Q1 : Option Value ⊕ String → zS → Prop} (hx : r_i k pc = some (i, y.2.2.2)) (hp : zp_step i y.2.2.2 pc (r_l k) lv st = none) (hh : zheap g (r_o k) (r_m k).1.name (r_c k) i y.2.2.2 pc lv st σ = none) (hr : zr_ret i y.2.2.2 st (r_m k).2.2.2.1 = none) (hc : zcall g (r_o k) i st σ = some y)
    (hck : zck y.1 false = some μ') (h6 : zc6 y.2.2.1 = true) (hl : (lg_sl y.2.1).length ≤ μ'.2.2.1) (hrun : zM g d y.1 y.2.1 σ Q1) (h : ∀ (o : Option Value ⊕ String) (σ1 : zS), zle σ σ1 → Q1 o σ1 → ∃ v, o = .inl v ∧ zW g (d + 1) k (pc + y.2.2.2) lv (v.toList ++ y.2.2.1) σ1 Q) : zW g (d + 1) k pc lv st σ Q := by
  obtain ⟨o, σ1, ⟨n, hn⟩, h2⟩ := hrun
  obtain ⟨v, rfl, o2, σ2, h3, h4⟩ := h o σ1 (zx_mono g n _ _ _ _ _ _ _ _ hn) h2
  exact ⟨o2, σ2, zR_call hx hp hh hr hc hck h6 hl ⟨n, hn⟩ h3, h4⟩
variable {h : aH} {c j kd idx : Nat} {q : Nat × FieldType × Bool × Bool} {v : Int}
theorem aspec_at (h : aH) {c k kd : Nat} (hk : (aspec c)[k]? = some kd) (i : Nat) : (((aspec c).zipIdx).map (fun q => aconv h q.1 (aV h c q.2 i)))[k]? = some (aconv h kd (aV h c k i)) := by
  rw [List.getElem?_map, List.getElem?_zipIdx, hk]
  simp only [Option.map_some, Nat.zero_add]
/-- a field is read -/
theorem aW_get (H : aRep (zg_n g) σ h) (hx : r_i k pc = some (.getfield idx, 3)) (hj : j < aN h c) (hf : zf_at (r_o k) idx c = some q) (hk : (aspec c)[q.1]? = some kd) (hr : zW g d k (pc + 3) lv (aconv h kd (aV h c q.1 j) :: st) σ Q) : zW g d k pc lv (.ref (aA h c j) :: st) σ Q := by
  refine zW_heap (f := ((pc + 3, lv, aconv h kd (aV h c q.1 j) :: st), σ)) hx rfl ?_ hr
  unfold zheap
  simp only
  unfold zs_get
  rw [(H.1 c j hj).1]
  unfold acell
  simp only
  rw [hf]
  simp only
  rw [aspec_at h hk]
/-- a field is written -/
theorem aW_put {w : Value} (H : aRep (zg_n g) σ h) (hx : r_i k pc = some (.putfield idx, 3)) (hj : j < aN h c) (hf : zf_at (r_o k) idx c = some q) (hk : (aspec c)[q.1]? = some kd) (hfin : q.2.2.1 = false ∨ (q.2.2.2 = true ∧ ((r_m k).1.name == "<init>") = true)) (hw : w = aconv h kd v) (hn : narrow q.2.1 w = w) (hfit : fits q.2.1 w = true) (hlive : alive h kd v)
    (hr : ∀ σ' : zS, aRep (zg_n g) σ' (aset h c q.1 j v) → σ'.2 = σ.2 → zW g d k (pc + 3) lv st σ' Q) : zW g d k pc lv (w :: .ref (aA h c j) :: st) σ Q := by
  subst hw
  have H2 := aRep.set H (v := v) hj hk hlive
  refine zW_heap (f := ((pc + 3, lv, st), (zw_up σ.1 (aA h c j) (.inr (c, (((aspec c).zipIdx).map (fun q => aconv h q.1 (aV h c q.2 j))).set q.1 (aconv h kd v))), σ.2))) hx rfl ?_ (hr _ H2 rfl)
  unfold zheap
  simp only
  unfold zs_put
  rw [(H.1 c j hj).1]
  unfold acell
  simp only
  rw [hf]
  simp only
  have hlt : q.1 < (List.map (fun q => aconv h q.1 (aV h c q.2 j)) (aspec c).zipIdx).length := by
    rw [List.length_map, List.length_zipIdx]
    exact (List.getElem?_eq_some_iff.mp hk).1
  rw [if_pos ⟨(H.1 c j hj).2.1, hfin, hn, hfit, hlt⟩]
  rfl
end ZWP
section ZTEST2
variable {g : zG} {d : Nat} {σ : zS} {h : aH} {o : Nat}
/-- Foundrymark$Stage-free test: Machine.isFree needs nulls; ArrayList.size -/
theorem ztest2 (H : aRep (zg_n g) σ h) (ho : o < aN h 16) : zM g d 6 [.ref (aA h 16 o)] σ (fun r σ' => r = .inl (some (.int (Int32.ofInt (aV h 16 2 o)))) ∧ σ' = σ) := by
  refine zW_ps 1 rfl ?_
  refine aW_get H rfl ho rfl rfl ?_
  exact zW_reti rfl rfl rfl ⟨rfl, rfl⟩
end ZTEST2
