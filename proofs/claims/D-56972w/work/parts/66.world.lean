/-! RUNS BY THEIR ENDS: rows over the plain world; branches; calls whose run is known -/
set_option maxRecDepth 100000
/-- a run's end, known: the answer and the world -/
abbrev zEnd (g : zG) (d k : Nat) (As : List Value) (σ : zS) (o : Option Value ⊕ String) (σ' : zS) : Prop := zR g d k 0 (lv_args 0 As) [] σ (o, σ')
section ZWW
variable {g : zG} {d d1 k pc len t on : Nat} {lv : zp_L} {st st' rest : List Value} {σ σ1 : zS} {Q : Option Value ⊕ String → zS → Prop} {i : Instr} {P : Prop} {dP : Decidable P}
theorem zW_br (hx : r_i k pc = some (i, len)) (hs : zp_step i len pc (r_l k) lv st = zp_br (decide P) (some t) on lv st') (h1 : P → zW g d k t lv st' σ Q) (h2 : ¬ P → zW g d k on lv st' σ Q) : zW g d k pc lv st σ Q := by
  by_cases hP : P
  · refine zW_ps 1 (f := (t, lv, st')) ?_ (h1 hP)
    unfold zps
    rw [hx]
    simp only
    rw [hs, decide_eq_true hP]
    rfl
  · refine zW_ps 1 (f := (on, lv, st')) ?_ (h2 hP)
    unfold zps
    rw [hx]
    simp only
    rw [hs, decide_eq_false hP]
    rfl
/-- pure steps; the frame in its parts -/
def zpt (k : Nat) : Nat → Nat → zp_L → List Value → Option zp_F
  | 0, pc, lv, st => some (pc, lv, st)
  | n + 1, pc, lv, st => match r_i k pc with
    | some (i, len) => match zp_step i len pc (r_l k) lv st with
      | some (pc', lv', st') => zpt k n pc' lv' st'
      | none => none
    | none => none
theorem zpt_zps (k : Nat) : ∀ (n pc : Nat) (lv : zp_L) (st : List Value), zpt k n pc lv st = zps k n pc lv st := by
  intro n
  induction n with
  | zero => intro pc lv st; rfl
  | succ n ih =>
    intro pc lv st
    unfold zpt zps
    cases r_i k pc with
    | none => rfl
    | some x =>
      simp only
      cases zp_step x.1 x.2 pc (r_l k) lv st with
      | none => rfl
      | some f => exact ih _ _ _
theorem zW_p (m : Nat) {pc' : Nat} {lv' : zp_L} (h : zpt k m pc lv st = some (pc', lv', st')) (hr : zW g d k pc' lv' st' σ Q) : zW g d k pc lv st σ Q := zW_ps m ((zpt_zps k m pc lv st).symm.trans h) hr
variable {a b ci idx m n cnt kd : Nat} {fs : List Value} {q : Nat × FieldType × Bool × Bool} {v w : Value} {C E : String} {x : Nat × Nat} {y z j : Int32} {μ' : zMt} {o : Option Value}
theorem wW_get (hx : r_i k pc = some (.getfield idx, 3)) (hw : σ.1 a = some (.inr (ci, fs))) (hf : zf_at (r_o k) idx ci = some q) (hv : fs[q.1]? = some v) (hr : zW g d k (pc + 3) lv (v :: st) σ Q) : zW g d k pc lv (.ref a :: st) σ Q := by
  refine zW_heap (f := ((pc + 3, lv, v :: st), σ)) hx rfl ?_ hr
  unfold zheap
  simp only
  unfold zs_get
  rw [hw]
  simp only
  rw [hf]
  simp only
  rw [hv]
theorem wW_put (hx : r_i k pc = some (.putfield idx, 3)) (hw : σ.1 a = some (.inr (ci, fs))) (hf : zf_at (r_o k) idx ci = some q) (hn0 : zg_n g ≤ a) (hfin : q.2.2.1 = false ∨ (q.2.2.2 = true ∧ ((r_m k).1.name == "<init>") = true)) (hn : narrow q.2.1 w = w) (hfit : fits q.2.1 w = true) (hlt : Nat.blt q.1 fs.length = true)
    (hr : zW g d k (pc + 3) lv st (zw_up σ.1 a (.inr (ci, fs.set q.1 w)), σ.2) Q) : zW g d k pc lv (w :: .ref a :: st) σ Q := by
  refine zW_heap (f := ((pc + 3, lv, st), (zw_up σ.1 a (.inr (ci, fs.set q.1 w)), σ.2))) hx rfl ?_ hr
  unfold zheap
  simp only
  unfold zs_put
  rw [hw]
  simp only
  rw [hf]
  simp only
  rw [if_pos ⟨hn0, hfin, hn, hfit, Nat.le_of_ble_eq_true hlt⟩]
  rfl
theorem wW_new (hx : r_i k pc = some (.new idx, 3)) (ht : zthrow (r_c k) (r_o k) pc idx = none) (hl : zl_at (r_o k) idx = some C) (hn : zn_at C = some (ci, m, fs))
    (hr : zW g d k (pc + 3) lv (.ref σ.2.1 :: st) (zw_up σ.1 σ.2.1 (.inr (ci, fs)), σ.2.1 + 1, σ.2.2 + m) Q) : zW g d k pc lv st σ Q := by
  refine zW_heap (f := ((pc + 3, lv, .ref σ.2.1 :: st), (zw_up σ.1 σ.2.1 (.inr (ci, fs)), σ.2.1 + 1, σ.2.2 + m))) hx rfl ?_ hr
  unfold zheap
  simp only
  rw [ht]
  simp only
  unfold zs_new
  rw [hl]
  simp only
  rw [hn]
  rfl
/-- 'throw new E()' -/
theorem wW_throw {T : Nat × String} (hx : r_i k pc = some (.new idx, 3)) (ht : zthrow (r_c k) (r_o k) pc idx = some T) (h6 : zc6 st = true) (hh : zhd (r_o k) T.1 T.2 (r_m k).2.2.2.2 = some none) (hq : Q (.inr T.2) (σ.1, σ.2.1 + 1, σ.2.2 + 6)) : zW g d k pc lv st σ Q := by
  obtain ⟨hb, hm, hz⟩ := r_some hx
  refine ⟨.inr T.2, (σ.1, σ.2.1 + 1, σ.2.2 + 6), ⟨1, ?_⟩, hq⟩
  unfold zx
  rw [hb, hm]
  simp only
  unfold zxs
  rw [hz]
  simp only
  have e1 : zstep g (r_o k) (r_m k).1.name (r_m k).2.2.1 (r_m k).2.2.2.1 (r_c k) (.new idx) 3 pc lv st σ = some (.inr (.inl (.inr T, (σ.1, σ.2.1 + 1, σ.2.2 + 6)))) := by
    unfold zstep
    have e2 : zp_step (.new idx) 3 pc (r_m k).2.2.1 lv st = none := rfl
    rw [e2]
    simp only
    unfold zheap
    simp only
    rw [ht]
    simp only
    rw [if_pos h6]
  rw [e1]
  simp only
  rw [hh]
theorem wW_cast (hx : r_i k pc = some (.checkcast idx, 3)) (hw : σ.1 a = some (.inr (ci, fs))) (hl : zl_at (r_o k) idx = some C) (hc : zco_at ci C = true) (hr : zW g d k (pc + 3) lv (.ref a :: st) σ Q) : zW g d k pc lv (.ref a :: st) σ Q := by
  refine zW_heap (f := ((pc + 3, lv, .ref a :: st), σ)) hx rfl ?_ hr
  unfold zheap
  simp only
  unfold zs_cast
  simp only
  rw [hw, hl]
  simp only
  rw [if_pos hc]
theorem wW_castI {A : vp_A} (hx : r_i k pc = some (.checkcast idx, 3)) (hw : σ.1 a = some (.inl (0, A))) (hl : zl_at (r_o k) idx = some "[I") (hr : zW g d k (pc + 3) lv (.ref a :: st) σ Q) : zW g d k pc lv (.ref a :: st) σ Q := by
  refine zW_heap (f := ((pc + 3, lv, .ref a :: st), σ)) hx rfl ?_ hr
  unfold zheap
  simp only
  unfold zs_cast
  simp only
  rw [hw, hl]
  simp only
  rw [if_pos ⟨trivial, trivial⟩]
theorem wW_instY (hx : r_i k pc = some (.instanceof idx, 3)) (hw : σ.1 a = some (.inr (ci, fs))) (hl : zl_at (r_o k) idx = some C) (hc : zco_at ci C = true) (hr : zW g d k (pc + 3) lv (.int 1 :: st) σ Q) : zW g d k pc lv (.ref a :: st) σ Q := by
  refine zW_heap (f := ((pc + 3, lv, .int 1 :: st), σ)) hx rfl ?_ hr
  unfold zheap
  simp only
  unfold zs_inst
  simp only
  rw [hw, hl]
  simp only
  rw [if_pos hc]
  rfl
theorem wW_instN {r : Nat × String × String} (hx : r_i k pc = some (.instanceof idx, 3)) (hw : σ.1 a = some (.inr (ci, fs))) (hl : zl_at (r_o k) idx = some C) (hc : zco_at ci C = false) (hno : zno.find? (fun r => r.1 == ci && r.2.2 == C) = some r) (hr : zW g d k (pc + 3) lv (.int 0 :: st) σ Q) : zW g d k pc lv (.ref a :: st) σ Q := by
  refine zW_heap (f := ((pc + 3, lv, .int 0 :: st), σ)) hx rfl ?_ hr
  unfold zheap
  simp only
  unfold zs_inst
  simp only
  rw [hw, hl]
  simp only
  rw [if_neg (by rw [hc]; decide), hno]
  rfl
theorem wW_len {X : (Nat → Int32) ⊕ (Nat → Int64) ⊕ (Nat → UInt32) ⊕ (Nat → UInt64) ⊕ (Nat → Option Nat)} (hx : r_i k pc = some (.arraylength, 1)) (hw : σ.1 a = some (.inl (kd, n, X))) (hq : (zkinds[kd]?).isSome = true) (hr : zW g d k (pc + 1) lv (.int (Int32.ofInt n) :: st) σ Q) : zW g d k pc lv (.ref a :: st) σ Q := by
  rw [Int32.ofInt_eq_ofNat] at hr
  refine zW_heap (f := ((pc + 1, lv, .int (Int32.ofNat n) :: st), σ)) hx rfl ?_ hr
  unfold zheap
  simp only
  unfold za_len
  rw [hw]
  simp only
  rw [if_pos (by rw [hq]; rfl)]
  rfl
theorem wW_aald {f : Nat → Option Nat} (hx : r_i k pc = some (.aaload, 1)) (hw : σ.1 a = some (.inl (kd, n, .inr (.inr (.inr (.inr f)))))) (hkd : za_ld kd = true) (hin : za_in j n = true) (hr : zW g d k (pc + 1) lv (va_rf (f j.toNatClampNeg) :: st) σ Q) : zW g d k pc lv (.int j :: .ref a :: st) σ Q := by
  refine zW_heap (f := ((pc + 1, lv, va_rf (f j.toNatClampNeg) :: st), σ)) hx rfl ?_ hr
  unfold zheap
  simp only
  unfold za_load
  rw [hw]
  simp only
  rw [if_pos ⟨hkd, hin⟩]
  rfl
theorem wW_iald {f : Nat → Int32} (hx : r_i k pc = some (.iaload, 1)) (hw : σ.1 a = some (.inl (0, n, .inl f))) (hin : za_in j n = true) (hr : zW g d k (pc + 1) lv (.int (f j.toNatClampNeg) :: st) σ Q) : zW g d k pc lv (.int j :: .ref a :: st) σ Q := by
  refine zW_heap (f := ((pc + 1, lv, .int (f j.toNatClampNeg) :: st), σ)) hx rfl ?_ hr
  unfold zheap
  simp only
  unfold za_load
  rw [hw]
  simp only
  rw [if_pos ⟨by first | trivial | rfl, hin⟩]
  rfl
theorem wW_bald {f : Nat → Int32} (hx : r_i k pc = some (.baload, 1)) (hw : σ.1 a = some (.inl (2, n, .inl f))) (hin : za_in j n = true) (hr : zW g d k (pc + 1) lv (.int (f j.toNatClampNeg) :: st) σ Q) : zW g d k pc lv (.int j :: .ref a :: st) σ Q := by
  refine zW_heap (f := ((pc + 1, lv, .int (f j.toNatClampNeg) :: st), σ)) hx rfl ?_ hr
  unfold zheap
  simp only
  unfold za_load
  rw [hw]
  simp only
  rw [if_pos ⟨trivial, hin⟩]
  rfl
theorem wW_cald {f : Nat → Int32} (hx : r_i k pc = some (.caload, 1)) (hw : σ.1 a = some (.inl (3, n, .inl f))) (hin : za_in j n = true) (hr : zW g d k (pc + 1) lv (.int (f j.toNatClampNeg) :: st) σ Q) : zW g d k pc lv (.int j :: .ref a :: st) σ Q := by
  refine zW_heap (f := ((pc + 1, lv, .int (f j.toNatClampNeg) :: st), σ)) hx rfl ?_ hr
  unfold zheap
  simp only
  unfold za_load
  rw [hw]
  simp only
  rw [if_pos ⟨trivial, hin⟩]
  rfl
theorem wW_lald {f : Nat → Int64} (hx : r_i k pc = some (.laload, 1)) (hw : σ.1 a = some (.inl (4, n, .inr (.inl f)))) (hin : za_in j n = true) (hr : zW g d k (pc + 1) lv (.long (f j.toNatClampNeg) :: st) σ Q) : zW g d k pc lv (.int j :: .ref a :: st) σ Q := by
  refine zW_heap (f := ((pc + 1, lv, .long (f j.toNatClampNeg) :: st), σ)) hx rfl ?_ hr
  unfold zheap
  simp only
  unfold za_load
  rw [hw]
  simp only
  rw [if_pos ⟨trivial, hin⟩]
  rfl
theorem wW_aast {f : Nat → Option Nat} {r : Option Nat} (hx : r_i k pc = some (.aastore, 1)) (hw : σ.1 a = some (.inl (kd, n, .inr (.inr (.inr (.inr f)))))) (hkd : za_cls kd = some E) (hel : za_el (zg_k g) E v σ = some r) (hin : za_in j n = true) (hn0 : zg_n g ≤ a)
    (hr : zW g d k (pc + 1) lv st (zw_up σ.1 a (.inl (kd, n, .inr (.inr (.inr (.inr (va_up f j.toNatClampNeg r)))))), σ.2) Q) : zW g d k pc lv (v :: .int j :: .ref a :: st) σ Q := by
  refine zW_heap (f := ((pc + 1, lv, st), (zw_up σ.1 a (.inl (kd, n, .inr (.inr (.inr (.inr (va_up f j.toNatClampNeg r)))))), σ.2))) hx rfl ?_ hr
  have e1 : zheap g (r_o k) (r_m k).1.name (r_c k) .aastore 1 pc lv (v :: .int j :: .ref a :: st) σ = (za_store (zg_n g) (zg_k g) .aastore pc lv st v j a σ).map .inl := by
    cases v <;> rfl
  rw [e1]
  unfold za_store
  rw [hw]
  simp only
  rw [hkd]
  simp only
  rw [hel]
  simp only
  rw [if_pos ⟨hin, hn0⟩]
  rfl
theorem wW_iast {f : Nat → Int32} (hx : r_i k pc = some (.iastore, 1)) (hw : σ.1 a = some (.inl (0, n, .inl f))) (hin : za_in j n = true) (hn0 : zg_n g ≤ a) (hr : zW g d k (pc + 1) lv st (zw_up σ.1 a (.inl (0, n, .inl (va_up f j.toNatClampNeg y))), σ.2) Q) : zW g d k pc lv (.int y :: .int j :: .ref a :: st) σ Q := by
  refine zW_heap (f := ((pc + 1, lv, st), (zw_up σ.1 a (.inl (0, n, .inl (va_up f j.toNatClampNeg y))), σ.2))) hx rfl ?_ hr
  unfold zheap
  simp only
  unfold za_store
  rw [hw]
  simp only
  rw [if_pos ⟨trivial, hin, hn0⟩]
  rfl
theorem wW_bast {f : Nat → Int32} (hx : r_i k pc = some (.bastore, 1)) (hw : σ.1 a = some (.inl (2, n, .inl f))) (hin : za_in j n = true) (hn0 : zg_n g ≤ a) (hr : zW g d k (pc + 1) lv st (zw_up σ.1 a (.inl (2, n, .inl (va_up f j.toNatClampNeg (vp_nar .boolean y)))), σ.2) Q) : zW g d k pc lv (.int y :: .int j :: .ref a :: st) σ Q := by
  refine zW_heap (f := ((pc + 1, lv, st), (zw_up σ.1 a (.inl (2, n, .inl (va_up f j.toNatClampNeg (vp_nar .boolean y)))), σ.2))) hx rfl ?_ hr
  unfold zheap
  simp only
  unfold za_store
  rw [hw]
  simp only
  rw [if_pos ⟨trivial, hin, hn0⟩]
  rfl
theorem wW_cast_ {f : Nat → Int32} (hx : r_i k pc = some (.castore, 1)) (hw : σ.1 a = some (.inl (3, n, .inl f))) (hin : za_in j n = true) (hn0 : zg_n g ≤ a) (hr : zW g d k (pc + 1) lv st (zw_up σ.1 a (.inl (3, n, .inl (va_up f j.toNatClampNeg (vp_nar .char y)))), σ.2) Q) : zW g d k pc lv (.int y :: .int j :: .ref a :: st) σ Q := by
  refine zW_heap (f := ((pc + 1, lv, st), (zw_up σ.1 a (.inl (3, n, .inl (va_up f j.toNatClampNeg (vp_nar .char y)))), σ.2))) hx rfl ?_ hr
  unfold zheap
  simp only
  unfold za_store
  rw [hw]
  simp only
  rw [if_pos ⟨trivial, hin, hn0⟩]
  rfl
theorem wW_last {f : Nat → Int64} {y : Int64} (hx : r_i k pc = some (.lastore, 1)) (hw : σ.1 a = some (.inl (4, n, .inr (.inl f)))) (hin : za_in j n = true) (hn0 : zg_n g ≤ a) (hr : zW g d k (pc + 1) lv st (zw_up σ.1 a (.inl (4, n, .inr (.inl (va_up f j.toNatClampNeg y)))), σ.2) Q) : zW g d k pc lv (.long y :: .int j :: .ref a :: st) σ Q := by
  refine zW_heap (f := ((pc + 1, lv, st), (zw_up σ.1 a (.inl (4, n, .inr (.inl (va_up f j.toNatClampNeg y)))), σ.2))) hx rfl ?_ hr
  unfold zheap
  simp only
  unfold za_store
  rw [hw]
  simp only
  rw [if_pos ⟨trivial, hin, hn0⟩]
  rfl
theorem wW_newa {t : ArrayType} {X : Nat × vp_A} (hx : r_i k pc = some (.newarray t, 2)) (h0 : ¬ j < 0 ∧ j.toNatClampNeg ≤ 1000000) (hk : zb_new t j.toNatClampNeg = some X) (hr : zW g d k (pc + 2) lv (.ref σ.2.1 :: st) (zw_up σ.1 σ.2.1 (.inl X), σ.2.1 + 1, σ.2.2 + j.toNatClampNeg) Q) : zW g d k pc lv (.int j :: st) σ Q := by
  refine zW_heap (f := ((pc + 2, lv, .ref σ.2.1 :: st), (zw_up σ.1 σ.2.1 (.inl X), σ.2.1 + 1, σ.2.2 + j.toNatClampNeg))) hx rfl ?_ hr
  unfold zheap
  simp only
  unfold zb_step
  rw [if_pos h0, hk]
  rfl
theorem wW_anewa (hx : r_i k pc = some (.anewarray idx, 3)) (h0 : ¬ j < 0 ∧ j.toNatClampNeg ≤ 1000000) (hl : zl_at (r_o k) idx = some C) (hk : zb_kind C = some kd) (hr : zW g d k (pc + 3) lv (.ref σ.2.1 :: st) (zw_up σ.1 σ.2.1 (.inl (kd, j.toNatClampNeg, .inr (.inr (.inr (.inr (fun _ => none)))))), σ.2.1 + 1, σ.2.2 + j.toNatClampNeg) Q) : zW g d k pc lv (.int j :: st) σ Q := by
  refine zW_heap (f := ((pc + 3, lv, .ref σ.2.1 :: st), (zw_up σ.1 σ.2.1 (.inl (kd, j.toNatClampNeg, .inr (.inr (.inr (.inr (fun _ => none)))))), σ.2.1 + 1, σ.2.2 + j.toNatClampNeg))) hx rfl ?_ hr
  unfold zheap
  simp only
  unfold zb_astep
  rw [if_pos h0, hl]
  simp only
  rw [hk]
  rfl
theorem wW_getC {A : vp_A} (hx : r_i k pc = some (.invokevirtual 86, 3)) (ho : r_o k = 22) (hw : σ.1 a = some (.inl (1, A))) (h8 : (st.map fun v => v.category).sum ≤ 8) (hr : zW g d k (pc + 3) lv (.ref (zg_m g) :: st) σ Q) : zW g d k pc lv (.ref a :: st) σ Q := by
  refine zW_heap (f := ((pc + 3, lv, .ref (zg_m g) :: st), σ)) hx rfl ?_ hr
  unfold zheap
  simp only
  unfold zs_getC
  simp only
  rw [hw]
  simp only
  rw [if_pos ⟨trivial, ho, trivial, h8⟩]
  rfl
theorem wW_ldc (hx : r_i k pc = some (.ldc 110, 2)) (ho : r_o k = 22) (hr : zW g d k (pc + 2) lv (.ref (zg_m g) :: st) σ Q) : zW g d k pc lv st σ Q := by
  refine zW_heap (f := ((pc + 2, lv, .ref (zg_m g) :: st), σ)) hx rfl ?_ hr
  unfold zheap
  simp only
  unfold zs_ldc
  rw [if_pos ⟨ho, rfl⟩]
  rfl
/-- ArraysSupport's constant -/
theorem wW_ldcI (hx : r_i k pc = some (.ldc 200, 2)) (ho : r_o k = 21) (hr : zW g d k (pc + 2) lv (.int 2147483639 :: st) σ Q) : zW g d k pc lv st σ Q := by
  refine zW_heap (f := ((pc + 2, lv, .int 2147483639 :: st), σ)) hx rfl ?_ hr
  unfold zheap
  simp only
  unfold zs_ldc
  rw [if_neg (by rw [ho]; rintro ⟨h, -⟩; cases h), if_pos ⟨ho, rfl⟩]
  rfl
theorem wW_copy {N sp dp : Int32} {k0 m0 k1 m1 : Nat} {f f1 : Nat → Option Nat} {E0 E1 : String} (hx : r_i k pc = some (.invokestatic idx, 3)) (hno : zxs_at (r_o k) idx = none) (h1 : ((r_o k) = 1 ∧ idx = 112) ∨ ((r_o k) = 22 ∧ idx = 150)) (hb : σ.1 b = some (.inl (k0, m0, .inr (.inr (.inr (.inr f)))))) (ha : σ.1 a = some (.inl (k1, m1, .inr (.inr (.inr (.inr f1))))))
    (hk0 : za_cls k0 = some E0) (hk1 : za_cls k1 = some E1) (h2 : ¬ sp < 0) (h3 : ¬ dp < 0) (h4 : ¬ N < 0) (h5 : sp.toNatClampNeg + N.toNatClampNeg ≤ m0) (h6 : dp.toNatClampNeg + N.toNatClampNeg ≤ m1) (hn0 : zg_n g ≤ a) (h7 : zs_fitB (zg_k g) E1 f sp.toNatClampNeg N.toNatClampNeg σ = true) (h8 : (st.map fun v => v.category).sum ≤ 8)
    (hr : zW g d k (pc + 3) lv st (zw_up σ.1 a (.inl (k1, m1, .inr (.inr (.inr (.inr (va_cpy f f1 sp.toNatClampNeg dp.toNatClampNeg N.toNatClampNeg)))))), σ.2) Q) : zW g d k pc lv (.int N :: .int dp :: .ref a :: .int sp :: .ref b :: st) σ Q := by
  refine zW_heap (f := ((pc + 3, lv, st), (zw_up σ.1 a (.inl (k1, m1, .inr (.inr (.inr (.inr (va_cpy f f1 sp.toNatClampNeg dp.toNatClampNeg N.toNatClampNeg)))))), σ.2))) hx rfl ?_ hr
  unfold zheap
  simp only
  rw [zxs_math_none hno]
  simp only
  unfold zs_copy
  simp only
  rw [hb, ha]
  simp only
  rw [hk0, hk1]
  simp only
  rw [if_pos ⟨h1, h2, h3, h4, h5, h6, hn0, h7, h8⟩]
  rfl
/-- returns -/
theorem wW_ret {r : Option Value} (hx : r_i k pc = some (i, len)) (hp : zp_step i len pc (r_l k) lv st = none) (hh : zheap g (r_o k) (r_m k).1.name (r_c k) i len pc lv st σ = none) (hr : zr_ret i len st (r_m k).2.2.2.1 = some r) (hq : Q (.inl r) σ) : zW g d k pc lv st σ Q := zW_ret hx hp hh hr hq
/-- calls whose run is known -/
theorem wcall {Y : Nat × List Value × List Value × Nat} (hx : r_i k pc = some (i, Y.2.2.2)) (hp : zp_step i Y.2.2.2 pc (r_l k) lv st = none) (hh : zheap g (r_o k) (r_m k).1.name (r_c k) i Y.2.2.2 pc lv st σ = none) (hr : zr_ret i Y.2.2.2 st (r_m k).2.2.2.1 = none) (hc : zcall g (r_o k) i st σ = some Y)
    (hck : zck Y.1 false = some μ') (h6 : zc6 Y.2.2.1 = true) (hl : Nat.ble (lg_sl Y.2.1).length μ'.2.2.1 = true) (hrun : zEnd g d1 Y.1 Y.2.1 σ (.inl o) σ1) (hd : d1 < d) (h : zW g d k (pc + Y.2.2.2) lv (o.toList ++ Y.2.2.1) σ1 Q) : zW g d k pc lv st σ Q := by
  cases d with
  | zero => omega
  | succ d =>
    obtain ⟨o2, σ2, h3, h4⟩ := h
    exact ⟨o2, σ2, zR_call hx hp hh hr hc hck h6 (Nat.le_of_ble_eq_true hl) (hrun.deep (by omega)) h3, h4⟩
theorem wV (hx : r_i k pc = some (.invokevirtual idx, 3)) (hno : (r_o k == 22 && idx == 86) = false) (hV : zcV_at (r_o k) idx = some x) (hm : zck x.1 false = some μ') (hst : st.drop x.2 = .ref b :: rest) (h6 : zc6 rest = true) (hl : Nat.ble (lg_sl (.ref b :: (st.take x.2).reverse)).length μ'.2.2.1 = true) (hrc : zrc g σ b = some μ'.1.cls)
    (hrun : zEnd g d1 x.1 (.ref b :: (st.take x.2).reverse) σ (.inl o) σ1) (hd : d1 < d) (hr : zW g d k (pc + 3) lv (o.toList ++ rest) σ1 Q) : zW g d k pc lv st σ Q := by
  refine wcall (Y := (x.1, .ref b :: (st.take x.2).reverse, rest, 3)) hx rfl ?_ rfl ?_ hm h6 hl hrun hd hr
  · unfold zheap
    simp only
    rw [zs_getC_none hno]
    rfl
  · unfold zcall
    simp only
    rw [hV]
    simp only
    rw [(zck_some hm).1, hst]
    simp only
    rw [if_pos hrc]
theorem wU {X1 : Nat} (hx : r_i k pc = some (.invokevirtual idx, 3)) (hno : (r_o k == 22 && idx == 86) = false) (hV : zcV_at (r_o k) idx = none) (hU : zun (r_o k) idx = some n) (hst : st.drop n = .ref b :: rest) (hrc : zrc g σ b = some C) (hu : zu_at (r_o k) idx C = some (X1, n)) (hm : zck X1 false = some μ') (h6 : zc6 rest = true) (hl : Nat.ble (lg_sl (.ref b :: (st.take n).reverse)).length μ'.2.2.1 = true)
    (hrun : zEnd g d1 X1 (.ref b :: (st.take n).reverse) σ (.inl o) σ1) (hd : d1 < d) (hr : zW g d k (pc + 3) lv (o.toList ++ rest) σ1 Q) : zW g d k pc lv st σ Q := by
  refine wcall (Y := (X1, .ref b :: (st.take n).reverse, rest, 3)) hx rfl ?_ rfl ?_ hm h6 hl hrun hd hr
  · unfold zheap
    simp only
    rw [zs_getC_none hno]
    rfl
  · unfold zcall
    simp only
    rw [hV]
    simp only
    rw [hU]
    simp only
    rw [hst]
    simp only
    rw [hrc]
    simp only
    rw [hu]
    simp only
    rw [if_pos trivial]
theorem wS (hx : r_i k pc = some (.invokestatic idx, 3)) (hno : zxs_at (r_o k) idx = none) (hno2 : ((r_o k == 1 && idx == 112) || (r_o k == 22 && idx == 150)) = false) (hS : zcS_at (r_o k) idx = some x) (hm : zck x.1 false = some μ') (hst : st.drop x.2 = rest) (hn : Nat.ble x.2 st.length = true) (h6 : zc6 rest = true) (hl : Nat.ble (lg_sl (st.take x.2).reverse).length μ'.2.2.1 = true)
    (hrun : zEnd g d1 x.1 (st.take x.2).reverse σ (.inl o) σ1) (hd : d1 < d) (hr : zW g d k (pc + 3) lv (o.toList ++ rest) σ1 Q) : zW g d k pc lv st σ Q := by
  refine wcall (Y := (x.1, (st.take x.2).reverse, rest, 3)) hx rfl ?_ rfl ?_ hm h6 hl hrun hd hr
  · unfold zheap
    simp only
    rw [zxs_math_none hno]
    simp only
    rw [zs_copy_none hno2]
    rfl
  · unfold zcall
    simp only
    rw [hS]
    simp only
    rw [if_pos (Nat.le_of_ble_eq_true hn), hst]
theorem wN (hx : r_i k pc = some (.invokestatic idx, 3)) (hno : zxs_at (r_o k) idx = none) (hno2 : ((r_o k == 1 && idx == 112) || (r_o k == 22 && idx == 150)) = false) (hS : zcS_at (r_o k) idx = none) (hN : zcN_at (r_o k) idx = some x) (hm : zck x.1 false = some μ') (hm2 : zck x.1 true = some μ') (hst : st.drop x.2 = rest) (hn : Nat.ble x.2 st.length = true) (h6 : zc6 rest = true) (hl : Nat.ble (lg_sl (st.take x.2).reverse).length μ'.2.2.1 = true)
    (hrun : zEnd g d1 x.1 (st.take x.2).reverse σ (.inl o) σ1) (hd : d1 < d) (hr : zW g d k (pc + 3) lv (o.toList ++ rest) σ1 Q) : zW g d k pc lv st σ Q := by
  refine wcall (Y := (x.1, (st.take x.2).reverse, rest, 3)) hx rfl ?_ rfl ?_ hm h6 hl hrun hd hr
  · unfold zheap
    simp only
    rw [zxs_math_none hno]
    simp only
    rw [zs_copy_none hno2]
    rfl
  · unfold zcall
    simp only
    rw [hS]
    simp only
    rw [hN]
    simp only
    rw [if_pos ⟨Nat.le_of_ble_eq_true hn, by rw [hm2]; rfl⟩, hst]
theorem wI (hx : r_i k pc = some (.invokespecial idx, 3)) (hno : zxs_at (r_o k) idx = none) (hI : zcI_at (r_o k) idx = some x) (hm : zck x.1 false = some μ') (hm2 : zck x.1 true = some μ') (hret : μ'.2.2.2.1 = none) (hst : st.drop x.2 = .ref b :: rest) (h6 : zc6 rest = true) (hl : Nat.ble (lg_sl (.ref b :: (st.take x.2).reverse)).length μ'.2.2.1 = true)
    (hrun : zEnd g d1 x.1 (.ref b :: (st.take x.2).reverse) σ (.inl o) σ1) (hd : d1 < d) (hr : zW g d k (pc + 3) lv (o.toList ++ rest) σ1 Q) : zW g d k pc lv st σ Q := by
  refine wcall (Y := (x.1, .ref b :: (st.take x.2).reverse, rest, 3)) hx rfl ?_ rfl ?_ hm h6 hl hrun hd hr
  · exact zheap_spec hno st
  · unfold zcall
    simp only
    rw [hI]
    simp only
    rw [hm2, hst]
    simp only
    rw [if_pos hret]
theorem wF {X1 : Nat} (hx : r_i k pc = some (.invokeinterface idx cnt, 5)) (hj : zjn (r_o k) idx = some n) (hst : st.drop n = .ref b :: rest) (hw : σ.1 b = some (.inr (ci, fs))) (hj2 : zj_at (r_o k) idx ci = some (X1, n)) (hm : zck X1 false = some μ') (hm2 : zck X1 true = some μ') (h6 : zc6 rest = true) (hl : Nat.ble (lg_sl (.ref b :: (st.take n).reverse)).length μ'.2.2.1 = true)
    (hrun : zEnd g d1 X1 (.ref b :: (st.take n).reverse) σ (.inl o) σ1) (hd : d1 < d) (hr : zW g d k (pc + 5) lv (o.toList ++ rest) σ1 Q) : zW g d k pc lv st σ Q := by
  refine wcall (Y := (X1, .ref b :: (st.take n).reverse, rest, 5)) hx rfl rfl rfl ?_ hm h6 hl hrun hd hr
  unfold zcall
  simp only
  rw [hj]
  simp only
  rw [hst]
  simp only
  rw [hw]
  simp only
  rw [hj2]
  simp only
  rw [if_pos ⟨trivial, by rw [hm2]; rfl⟩]
theorem w_rc {r : vw_C} (hw : σ.1 a = some (.inr (ci, fs))) (hc : zcl[ci]? = some r) : zrc g σ a = some r.1 := by
  unfold zrc
  rw [hw]
  simp only
  rw [hc]
  rfl
end ZWW
