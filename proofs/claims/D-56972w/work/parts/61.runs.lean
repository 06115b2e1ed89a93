/-! RUNS: the interpreter's answers do not hang on fuel or depth; rows for reading a run off a body, instruction by instruction -/
set_option maxRecDepth 100000
theorem zxs_le {g : zG} {F F' : Nat → Nat → Nat → zp_L → List Value → zS → Option zO} {b : Nat × List zIt} {μ : zMt} {G G' : Nat → zp_L → List Value → zS → Option zO} {d d' pc : Nat} {lv : zp_L} {st : List Value} {σ : zS} {r : zO}
    (hF : ∀ (d k pc : Nat) (lv : zp_L) (st : List Value) (σ : zS) (r : zO), F d k pc lv st σ = some r → ∀ d' : Nat, d ≤ d' → F' d' k pc lv st σ = some r) (hG : ∀ (pc : Nat) (lv : zp_L) (st : List Value) (σ : zS) (r : zO), G pc lv st σ = some r → G' pc lv st σ = some r) (hd : d ≤ d')
    (h : zxs g F b μ G d pc lv st σ = some r) : zxs g F' b μ G' d' pc lv st σ = some r := by
  unfold zxs at h ⊢
  split at h
  · cases h
  · rename_i x hx
    split at h
    · cases h
    · exact hG _ _ _ _ _ h
    · exact h
    · exact h
    · rename_i y hs
      cases d with
      | zero => cases h
      | succ d1 =>
        cases d' with
        | zero => omega
        | succ d2 =>
          simp only at h ⊢
          cases hck : zck y.1 false with
          | none => rw [hck] at h; cases h
          | some μ' =>
            rw [hck] at h
            simp only at h ⊢
            split at h
            · rename_i hc
              rw [if_pos hc]
              cases hf : F d1 y.1 0 (lv_args 0 y.2.1) [] σ with
              | none => rw [hf] at h; cases h
              | some w =>
                rw [hf] at h
                rw [hF _ _ _ _ _ _ _ hf d2 (by omega)]
                obtain ⟨o, σ1⟩ := w
                cases o with
                | inl v => exact hG _ _ _ _ _ h
                | inr E =>
                  simp only at h ⊢
                  split at h
                  · rename_i h3
                    rw [if_pos h3]
                    split at h
                    · cases h
                    · exact h
                    · rename_i h9 _
                      split at h
                      · rename_i z hz
                        exact hG _ _ _ _ _ h
                      · cases h
                  · cases h
            · cases h
theorem zx_le (g : zG) : ∀ (n n' d d' k pc : Nat) (lv : zp_L) (st : List Value) (σ : zS) (r : zO), n ≤ n' → d ≤ d' → zx g n d k pc lv st σ = some r → zx g n' d' k pc lv st σ = some r := by
  intro n
  induction n with
  | zero => intro n' d d' k pc lv st σ r _ _ h; cases h
  | succ n ih =>
    intro n' d d' k pc lv st σ r hn hd h
    cases n' with
    | zero => omega
    | succ n' =>
      unfold zx at h ⊢
      split at h
      · exact zxs_le (fun d k pc lv st σ r h d' hd => ih n' d d' k pc lv st σ r (by omega) hd h) (fun pc lv st σ r h => ih n' d d' k pc lv st σ r (by omega) hd h) hd h
      · cases h
theorem zxT_le (g : zG) (b : Nat × List zIt) (μ : zMt) : ∀ (n n' d d' pc : Nat) (lv : zp_L) (st : List Value) (σ : zS) (r : zO), n ≤ n' → d ≤ d' → zxT g b μ n d pc lv st σ = some r → zxT g b μ n' d' pc lv st σ = some r := by
  intro n
  induction n with
  | zero => intro n' d d' pc lv st σ r _ _ h; cases h
  | succ n ih =>
    intro n' d d' pc lv st σ r hn hd h
    cases n' with
    | zero => omega
    | succ n' =>
      unfold zxT at h ⊢
      exact zxs_le (fun d k pc lv st σ r h d' hd => zx_le g n n' d d' k pc lv st σ r (by omega) hd h) (fun pc lv st σ r h => ih n' d d' pc lv st σ r (by omega) hd h) hd h
/-- a run, whatever fuel -/
def zR (g : zG) (d k pc : Nat) (lv : zp_L) (st : List Value) (σ : zS) (r : zO) : Prop := ∃ n : Nat, zx g n d k pc lv st σ = some r
theorem zR.deep {g : zG} {d d' k pc : Nat} {lv : zp_L} {st : List Value} {σ : zS} {r : zO} (h : zR g d k pc lv st σ r) (hd : d ≤ d') : zR g d' k pc lv st σ r := by
  obtain ⟨n, hn⟩ := h
  exact ⟨n, zx_le g n n d d' k pc lv st σ r (Nat.le_refl _) hd hn⟩
def r_i (k pc : Nat) : Option (Instr × Nat) := match zBL[k]? with
  | some b => zat b.2 pc
  | none => none
def r_o (k : Nat) : Nat := match zBL[k]? with
  | some b => b.1
  | none => 0
def r_c (k : Nat) : List zIt := match zBL[k]? with
  | some b => b.2
  | none => []
def r_m (k : Nat) : zMt := match zML[k]? with
  | some μ => μ
  | none => zm0
abbrev r_l (k : Nat) : Nat := (r_m k).2.2.1
theorem zsame_len : zML.length = zBL.length := rfl
theorem r_some {k pc : Nat} {x : Instr × Nat} (h : r_i k pc = some x) : zBL[k]? = some (r_o k, r_c k) ∧ zML[k]? = some (r_m k) ∧ zat (r_c k) pc = some x := by
  unfold r_i at h
  cases hb : zBL[k]? with
  | none => rw [hb] at h; cases h
  | some b =>
    rw [hb] at h
    have hlt : k < zML.length := by
      rw [zsame_len]
      exact (List.getElem?_eq_some_iff.mp hb).1
    have hm : zML[k]? = some (zML[k]) := List.getElem?_eq_getElem hlt
    refine ⟨?_, ?_, ?_⟩
    · unfold r_o r_c; rw [hb]
    · unfold r_m; rw [hm]
    · unfold r_c; rw [hb]; exact h
section ZRR2
variable {g : zG} {d k pc len : Nat} {lv : zp_L} {st : List Value} {σ : zS} {r : zO} {i : Instr}
theorem zR_step {f : zp_F × zS} (hx : r_i k pc = some (i, len)) (hs : zstep g (r_o k) (r_m k).1.name (r_l k) (r_m k).2.2.2.1 (r_c k) i len pc lv st σ = some (.inl f)) (h : zR g d k f.1.1 f.1.2.1 f.1.2.2 f.2 r) : zR g d k pc lv st σ r := by
  obtain ⟨n, hn⟩ := h
  obtain ⟨hb, hm, hz⟩ := r_some hx
  refine ⟨n + 1, ?_⟩
  unfold zx
  rw [hb, hm]
  simp only
  unfold zxs
  rw [hz]
  simp only
  rw [hs]
  exact hn
/-- pure steps, so many -/
def zps (k : Nat) : Nat → Nat → zp_L → List Value → Option zp_F
  | 0, pc, lv, st => some (pc, lv, st)
  | n + 1, pc, lv, st => match r_i k pc with
    | some x => match zp_step x.1 x.2 pc (r_l k) lv st with
      | some f => zps k n f.1 f.2.1 f.2.2
      | none => none
    | none => none
theorem zR_ps : ∀ (m : Nat) {pc : Nat} {lv : zp_L} {st : List Value} {f : zp_F}, zps k m pc lv st = some f → zR g d k f.1 f.2.1 f.2.2 σ r → zR g d k pc lv st σ r := by
  intro m
  induction m with
  | zero => intro pc lv st f h hr; obtain rfl := Option.some.inj h; exact hr
  | succ m ih =>
    intro pc lv st f h hr
    unfold zps at h
    split at h
    · rename_i x hx
      split at h
      · rename_i f1 hf
        refine zR_step (f := (f1, σ)) hx ?_ (ih h hr)
        unfold zstep
        rw [hf]
      · cases h
    · cases h
theorem zR_heap {f : zp_F × zS} (hx : r_i k pc = some (i, len)) (hp : zp_step i len pc (r_l k) lv st = none) (hh : zheap g (r_o k) (r_m k).1.name (r_c k) i len pc lv st σ = some (.inl f)) (h : zR g d k f.1.1 f.1.2.1 f.1.2.2 f.2 r) : zR g d k pc lv st σ r := by
  refine zR_step hx ?_ h
  unfold zstep
  rw [hp]
  simp only
  rw [hh]
theorem zR_ret {v : Option Value} (hx : r_i k pc = some (i, len)) (hp : zp_step i len pc (r_l k) lv st = none) (hh : zheap g (r_o k) (r_m k).1.name (r_c k) i len pc lv st σ = none) (hr : zr_ret i len st (r_m k).2.2.2.1 = some v) : zR g d k pc lv st σ (.inl v, σ) := by
  obtain ⟨hb, hm, hz⟩ := r_some hx
  refine ⟨1, ?_⟩
  unfold zx
  rw [hb, hm]
  simp only
  unfold zxs
  rw [hz]
  simp only
  unfold zstep
  rw [hp]
  simp only
  rw [hh]
  simp only
  rw [hr]
theorem zR_reti {v : Int32} {ty : FieldType} (hx : r_i k pc = some (.ireturn, 1)) (ht : (r_m k).2.2.2.1 = some ty) (hn : narrow ty (.int v) = .int v) : zR g d k pc lv [.int v] σ (.inl (some (.int v)), σ) := by
  refine zR_ret hx rfl rfl ?_
  rw [ht]
  unfold zr_ret
  simp only
  rw [if_pos hn]
/-- a call: the callee's run, then on -/
theorem zR_call {v : Option Value} {σ1 : zS} {y : Nat × List Value × List Value × Nat} {μ' : zMt} (hx : r_i k pc = some (i, y.2.2.2)) (hp : zp_step i y.2.2.2 pc (r_l k) lv st = none) (hh : zheap g (r_o k) (r_m k).1.name (r_c k) i y.2.2.2 pc lv st σ = none) (hr : zr_ret i y.2.2.2 st (r_m k).2.2.2.1 = none) (hc : zcall g (r_o k) i st σ = some y)
    (hck : zck y.1 false = some μ') (h6 : zc6 y.2.2.1 = true) (hl : (lg_sl y.2.1).length ≤ μ'.2.2.1) (hrun : zR g d y.1 0 (lv_args 0 y.2.1) [] σ (.inl v, σ1)) (h : zR g (d + 1) k (pc + y.2.2.2) lv (v.toList ++ y.2.2.1) σ1 r) : zR g (d + 1) k pc lv st σ r := by
  obtain ⟨n1, h1⟩ := hrun
  obtain ⟨n2, h2⟩ := h
  obtain ⟨hb, hm, hz⟩ := r_some hx
  refine ⟨n1 + n2 + 1, ?_⟩
  unfold zx
  rw [hb, hm]
  simp only
  unfold zxs
  rw [hz]
  simp only
  unfold zstep
  rw [hp]
  simp only
  rw [hh]
  simp only
  rw [hr, hc]
  simp only [Option.map_some]
  rw [hck]
  simp only
  rw [if_pos ⟨trivial, h6, hl⟩, zx_le g n1 (n1 + n2) d d _ _ _ _ _ _ (by omega) (Nat.le_refl _) h1]
  exact zx_le g n2 (n1 + n2) _ _ _ _ _ _ _ _ (by omega) (Nat.le_refl _) h2
theorem zR_get {a idx ci : Nat} {fs : List Value} {q : Nat × FieldType × Bool × Bool} {v : Value} (hx : r_i k pc = some (.getfield idx, 3)) (hw : σ.1 a = some (.inr (ci, fs))) (hf : zf_at (r_o k) idx ci = some q) (hv : fs[q.1]? = some v) (h : zR g d k (pc + 3) lv (v :: st) σ r) : zR g d k pc lv (.ref a :: st) σ r := by
  refine zR_heap (f := ((pc + 3, lv, v :: st), σ)) hx rfl ?_ h
  unfold zheap
  simp only
  unfold zs_get
  rw [hw]
  simp only
  rw [hf]
  simp only
  rw [hv]
end ZRR2
section ZTEST
variable {g : zG} {d : Nat} {σ : zS} {a b : Nat} {m n : Int32}
theorem ztest1 (h : σ.1 a = some (.inr (16, [.int m, .ref b, .int n]))) : zR g d 6 0 [(0, .ref a)] [] σ (.inl (some (.int n)), σ) := by
  refine zR_ps 1 rfl ?_
  refine zR_get rfl h rfl rfl ?_
  exact zR_reti rfl rfl rfl
end ZTEST
