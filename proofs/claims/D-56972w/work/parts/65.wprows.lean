/-! RUNS BY THEIR ENDS: rows for new objects, arrays, statics, constants, natives, casts, returns -/
set_option maxRecDepth 100000
section ZWQ
variable {g : zG} {d k pc len : Nat} {lv : zp_L} {st : List Value} {σ : zS} {Q : Option Value ⊕ String → zS → Prop} {h : aH} {c i idx m n j : Nat} {C : String} {fs : List Value} {v : Value} {x : String × String × String} {t y z : Int32}
theorem aW_new (H : aRep (zg_n g) σ h) (hx : r_i k pc = some (.new idx, 3)) (ht : zthrow (r_c k) (r_o k) pc idx = none) (hl : zl_at (r_o k) idx = some C) (hn : zn_at C = some (c, m, fs)) (hfs : fs = (aspec c).map (fun kd => aconv h kd (adef kd)))
    (hr : ∀ σ' : zS, aRep (zg_n g) σ' (anew h c σ.2.1) → σ'.2 = (σ.2.1 + 1, σ.2.2 + m) → zW g d k (pc + 3) lv (.ref (aA (anew h c σ.2.1) c (aN h c)) :: st) σ' Q) : zW g d k pc lv st σ Q := by
  have e1 : aA (anew h c σ.2.1) c (aN h c) = σ.2.1 := by
    show (if c = c ∧ aN h c = aN h c then σ.2.1 else _) = _
    rw [if_pos ⟨rfl, rfl⟩]
  have h1 := hr _ (aRep.new (m := m) H hfs) rfl
  rw [e1] at h1
  refine zW_heap (f := ((pc + 3, lv, .ref σ.2.1 :: st), (zw_up σ.1 σ.2.1 (.inr (c, fs)), σ.2.1 + 1, σ.2.2 + m))) hx rfl ?_ h1
  unfold zheap
  simp only
  rw [ht]
  simp only
  unfold zs_new
  rw [hl]
  simp only
  rw [hn]
  rfl
/-- Object's constructor -/
theorem aW_oinit {a : Nat} (hx : r_i k pc = some (.invokespecial idx, 3)) (h0 : zxs_at (r_o k) idx = some 0) (h8 : (st.map fun v => v.category).sum ≤ 8) (hr : zW g d k (pc + 3) lv st σ Q) : zW g d k pc lv (.ref a :: st) σ Q := by
  refine zW_heap (f := ((pc + 3, lv, st), σ)) hx rfl ?_ hr
  unfold zheap
  simp only
  unfold zxs_init
  rw [if_pos ⟨h0, h8⟩]
  rfl
theorem aW_max (hx : r_i k pc = some (.invokestatic idx, 3)) (h0 : zxs_at (r_o k) idx = some 1) (h8 : (st.map fun v => v.category).sum ≤ 8) (hr : zW g d k (pc + 3) lv (.int (if z < y then y else z) :: st) σ Q) : zW g d k pc lv (.int y :: .int z :: st) σ Q := by
  refine zW_heap (f := ((pc + 3, lv, .int (if z < y then y else z) :: st), σ)) hx rfl ?_ hr
  unfold zheap
  simp only
  unfold zxs_math
  rw [h0]
  simp only
  rw [if_pos h8]
theorem aW_min (hx : r_i k pc = some (.invokestatic idx, 3)) (h0 : zxs_at (r_o k) idx = some 2) (h8 : (st.map fun v => v.category).sum ≤ 8) (hr : zW g d k (pc + 3) lv (.int (if y < z then y else z) :: st) σ Q) : zW g d k pc lv (.int y :: .int z :: st) σ Q := by
  refine zW_heap (f := ((pc + 3, lv, .int (if y < z then y else z) :: st), σ)) hx rfl ?_ hr
  unfold zheap
  simp only
  unfold zxs_math
  rw [h0]
  simp only
  rw [if_pos h8]
theorem aW_abs (hx : r_i k pc = some (.invokestatic idx, 3)) (h0 : zxs_at (r_o k) idx = some 3) (h8 : (st.map fun v => v.category).sum ≤ 8) (hr : zW g d k (pc + 3) lv (.int (if 0 ≤ z then z else 0 - z) :: st) σ Q) : zW g d k pc lv (.int z :: st) σ Q := by
  refine zW_heap (f := ((pc + 3, lv, .int (if 0 ≤ z then z else 0 - z) :: st), σ)) hx rfl ?_ hr
  unfold zheap
  simp only
  unfold zxs_math
  rw [h0]
  simp only
  rw [if_pos h8]
theorem aW_stat (hx : r_i k pc = some (.getstatic idx, 3)) (ht : zt_at (r_o k) idx = some x) (hv : zt_val (zg_s g) x = some v) (hr : zW g d k (pc + 3) lv (v :: st) σ Q) : zW g d k pc lv st σ Q := by
  refine zW_heap (f := ((pc + 3, lv, v :: st), σ)) hx rfl ?_ hr
  unfold zheap
  simp only
  unfold zs_stat
  rw [ht]
  simp only
  rw [hv]
  rfl
/-- a field of a constant object -/
theorem aW_const {a : Nat} (hw : zcst (σ.1 a)) (hx : r_i k pc = some (.getfield idx, 3)) (ht : zv_at (r_o k) idx = some x) (hv : zv_val (zg_o g) x a = some v) (hr : zW g d k (pc + 3) lv (v :: st) σ Q) : zW g d k pc lv (.ref a :: st) σ Q := by
  refine zW_heap (f := ((pc + 3, lv, v :: st), σ)) hx rfl ?_ hr
  unfold zheap
  simp only
  unfold zs_get zs_const
  rcases hw with hw | ⟨kd, A, hw, -⟩
  · rw [hw]
    simp only
    rw [ht]
    simp only
    rw [hv]
    rfl
  · rw [hw]
    simp only
    rw [ht]
    simp only
    rw [hv]
    rfl
/-- a cast of an object of the heap -/
theorem aW_cast (H : aRep (zg_n g) σ h) (hx : r_i k pc = some (.checkcast idx, 3)) (hi : i < aN h c) (hl : zl_at (r_o k) idx = some C) (hc : zco_at c C = true) (hr : zW g d k (pc + 3) lv (.ref (aA h c i) :: st) σ Q) : zW g d k pc lv (.ref (aA h c i) :: st) σ Q := by
  refine zW_heap (f := ((pc + 3, lv, .ref (aA h c i) :: st), σ)) hx rfl ?_ hr
  unfold zheap
  simp only
  unfold zs_cast
  simp only
  rw [(H.1 c i hi).1, hl]
  unfold acell
  simp only
  rw [if_pos hc]
theorem aW_castnull (hx : r_i k pc = some (.checkcast idx, 3)) (hr : zW g d k (pc + 3) lv (.null :: st) σ Q) : zW g d k pc lv (.null :: st) σ Q := by
  refine zW_heap (f := ((pc + 3, lv, .null :: st), σ)) hx rfl rfl hr
/-- a cast of a constant to its own class -/
theorem aW_castK {a : Nat} (hw : zcst (σ.1 a)) (hx : r_i k pc = some (.checkcast idx, 3)) (hl : zl_at (r_o k) idx = some C) (hk : (zg_k g).find? (fun r => r.2 == a) = some (C, a)) (hr : zW g d k (pc + 3) lv (.ref a :: st) σ Q) : zW g d k pc lv (.ref a :: st) σ Q := by
  refine zW_heap (f := ((pc + 3, lv, .ref a :: st), σ)) hx rfl ?_ hr
  unfold zheap
  simp only
  unfold zs_cast zs_castK
  simp only
  rcases hw with hw | ⟨kd, A, hw, hkd⟩
  · rw [hw]
    simp only
    rw [hl, hk]
    simp only
    rw [if_pos trivial]
    rfl
  · rw [hw, hl, hk]
    simp only
    have hne : ¬ (kd = 0 ∧ C = "[I") := fun q => by
      have := q.1
      omega
    rw [if_neg hne]
    simp only
    rw [if_pos trivial]
    rfl
/-- a cast of an int array -/
theorem aW_castI {q : vp_A} (H : aRep (zg_n g) σ h) (hx : r_i k pc = some (.checkcast idx, 3)) (hj : j < aM h) (hA : aC h j = (0, q)) (hl : zl_at (r_o k) idx = some "[I") (hr : zW g d k (pc + 3) lv (.ref (aB h j) :: st) σ Q) : zW g d k pc lv (.ref (aB h j) :: st) σ Q := by
  refine zW_heap (f := ((pc + 3, lv, .ref (aB h j) :: st), σ)) hx rfl ?_ hr
  unfold zheap
  simp only
  unfold zs_cast
  simp only
  rw [(H.2.2.1 j hj).1, hA, hl]
  simp only
  rw [if_pos ⟨trivial, trivial⟩]
/-- 'instanceof': Made and Bought -/
theorem aW_instY (H : aRep (zg_n g) σ h) (hx : r_i k pc = some (.instanceof idx, 3)) (hi : i < aN h c) (hl : zl_at (r_o k) idx = some C) (hc : zco_at c C = true) (hr : zW g d k (pc + 3) lv (.int 1 :: st) σ Q) : zW g d k pc lv (.ref (aA h c i) :: st) σ Q := by
  refine zW_heap (f := ((pc + 3, lv, .int 1 :: st), σ)) hx rfl ?_ hr
  unfold zheap
  simp only
  unfold zs_inst
  simp only
  rw [(H.1 c i hi).1, hl]
  unfold acell
  simp only
  rw [if_pos hc]
  rfl
theorem aW_instN {r : Nat × String × String} (H : aRep (zg_n g) σ h) (hx : r_i k pc = some (.instanceof idx, 3)) (hi : i < aN h c) (hl : zl_at (r_o k) idx = some C) (hc : zco_at c C = false) (hno : zno.find? (fun r => r.1 == c && r.2.2 == C) = some r) (hr : zW g d k (pc + 3) lv (.int 0 :: st) σ Q) : zW g d k pc lv (.ref (aA h c i) :: st) σ Q := by
  refine zW_heap (f := ((pc + 3, lv, .int 0 :: st), σ)) hx rfl ?_ hr
  unfold zheap
  simp only
  unfold zs_inst
  simp only
  rw [(H.1 c i hi).1, hl]
  unfold acell
  simp only
  rw [if_neg (by rw [hc]; decide), hno]
  rfl
/-- arrays: length, loads, stores -/
theorem aW_len {q : Nat × vp_A} (H : aRep (zg_n g) σ h) (hx : r_i k pc = some (.arraylength, 1)) (hj : j < aM h) (hA : aC h j = q) (hq : (zkinds[q.1]?).isSome = true) (hr : zW g d k (pc + 1) lv (.int (Int32.ofNat q.2.1) :: st) σ Q) : zW g d k pc lv (.ref (aB h j) :: st) σ Q := by
  refine zW_heap (f := ((pc + 1, lv, .int (Int32.ofNat q.2.1) :: st), σ)) hx rfl ?_ hr
  unfold zheap
  simp only
  unfold za_len
  rw [(H.2.2.1 j hj).1, hA]
  simp only
  rw [if_pos (by rw [hq]; rfl)]
  rfl
theorem aW_iald {f : Nat → Int32} (H : aRep (zg_n g) σ h) (hx : r_i k pc = some (.iaload, 1)) (hj : j < aM h) (hA : aC h j = (0, n, .inl f)) (hin : za_in t n = true) (hr : zW g d k (pc + 1) lv (.int (f t.toNatClampNeg) :: st) σ Q) : zW g d k pc lv (.int t :: .ref (aB h j) :: st) σ Q := by
  refine zW_heap (f := ((pc + 1, lv, .int (f t.toNatClampNeg) :: st), σ)) hx rfl ?_ hr
  unfold zheap
  simp only
  unfold za_load
  rw [(H.2.2.1 j hj).1, hA]
  simp only
  rw [if_pos ⟨by first | trivial | rfl, hin⟩]
  rfl
theorem aW_bald {f : Nat → Int32} (H : aRep (zg_n g) σ h) (hx : r_i k pc = some (.baload, 1)) (hj : j < aM h) (hA : aC h j = (2, n, .inl f)) (hin : za_in t n = true) (hr : zW g d k (pc + 1) lv (.int (f t.toNatClampNeg) :: st) σ Q) : zW g d k pc lv (.int t :: .ref (aB h j) :: st) σ Q := by
  refine zW_heap (f := ((pc + 1, lv, .int (f t.toNatClampNeg) :: st), σ)) hx rfl ?_ hr
  unfold zheap
  simp only
  unfold za_load
  rw [(H.2.2.1 j hj).1, hA]
  simp only
  rw [if_pos ⟨trivial, hin⟩]
  rfl
theorem aW_cald {f : Nat → Int32} (H : aRep (zg_n g) σ h) (hx : r_i k pc = some (.caload, 1)) (hj : j < aM h) (hA : aC h j = (3, n, .inl f)) (hin : za_in t n = true) (hr : zW g d k (pc + 1) lv (.int (f t.toNatClampNeg) :: st) σ Q) : zW g d k pc lv (.int t :: .ref (aB h j) :: st) σ Q := by
  refine zW_heap (f := ((pc + 1, lv, .int (f t.toNatClampNeg) :: st), σ)) hx rfl ?_ hr
  unfold zheap
  simp only
  unfold za_load
  rw [(H.2.2.1 j hj).1, hA]
  simp only
  rw [if_pos ⟨trivial, hin⟩]
  rfl
theorem aW_aald {f : Nat → Option Nat} {kd : Nat} (H : aRep (zg_n g) σ h) (hx : r_i k pc = some (.aaload, 1)) (hj : j < aM h) (hA : aC h j = (kd, n, .inr (.inr (.inr (.inr f))))) (hkd : za_ld kd = true) (hin : za_in t n = true) (hr : zW g d k (pc + 1) lv (va_rf (f t.toNatClampNeg) :: st) σ Q) : zW g d k pc lv (.int t :: .ref (aB h j) :: st) σ Q := by
  refine zW_heap (f := ((pc + 1, lv, va_rf (f t.toNatClampNeg) :: st), σ)) hx rfl ?_ hr
  unfold zheap
  simp only
  unfold za_load
  rw [(H.2.2.1 j hj).1, hA]
  simp only
  rw [if_pos ⟨hkd, hin⟩]
  rfl
theorem aW_iast {f : Nat → Int32} (H : aRep (zg_n g) σ h) (hx : r_i k pc = some (.iastore, 1)) (hj : j < aM h) (h3 : 3 ≤ j) (hA : aC h j = (0, n, .inl f)) (hin : za_in t n = true) (hr : ∀ σ' : zS, aRep (zg_n g) σ' (asetA h j (0, n, .inl (va_up f t.toNatClampNeg y))) → σ'.2 = σ.2 → zW g d k (pc + 1) lv st σ' Q) : zW g d k pc lv (.int y :: .int t :: .ref (aB h j) :: st) σ Q := by
  refine zW_heap (f := ((pc + 1, lv, st), (zw_up σ.1 (aB h j) (.inl (0, n, .inl (va_up f t.toNatClampNeg y))), σ.2))) hx rfl ?_ (hr _ (aRep.setA H hj) rfl)
  unfold zheap
  simp only
  unfold za_store
  rw [(H.2.2.1 j hj).1, hA]
  simp only
  rw [if_pos ⟨trivial, hin, (H.2.2.1 j hj).2.1 h3⟩]
  rfl
theorem aW_aast {f : Nat → Option Nat} {kd : Nat} {E : String} {r : Option Nat} (H : aRep (zg_n g) σ h) (hx : r_i k pc = some (.aastore, 1)) (hj : j < aM h) (h3 : 3 ≤ j) (hA : aC h j = (kd, n, .inr (.inr (.inr (.inr f))))) (hkd : za_cls kd = some E) (hel : za_el (zg_k g) E v σ = some r) (hin : za_in t n = true) (hr : ∀ σ' : zS, aRep (zg_n g) σ' (asetA h j (kd, n, .inr (.inr (.inr (.inr (va_up f t.toNatClampNeg r)))))) → σ'.2 = σ.2 → zW g d k (pc + 1) lv st σ' Q) : zW g d k pc lv (v :: .int t :: .ref (aB h j) :: st) σ Q := by
  refine zW_heap (f := ((pc + 1, lv, st), (zw_up σ.1 (aB h j) (.inl (kd, n, .inr (.inr (.inr (.inr (va_up f t.toNatClampNeg r)))))), σ.2))) hx rfl ?_ (hr _ (aRep.setA H hj) rfl)
  have e1 : zheap g (r_o k) (r_m k).1.name (r_c k) .aastore 1 pc lv (v :: .int t :: .ref (aB h j) :: st) σ = (za_store (zg_n g) (zg_k g) .aastore pc lv st v t (aB h j) σ).map .inl := by
    cases v <;> rfl
  rw [e1]
  unfold za_store
  rw [(H.2.2.1 j hj).1, hA]
  simp only
  rw [hkd]
  simp only
  rw [hel]
  simp only
  rw [if_pos ⟨hin, (H.2.2.1 j hj).2.1 h3⟩]
  rfl
/-- what may lie in an array of objects -/
theorem aEl (H : aRep (zg_n g) σ h) (hi : i < aN h c) {E : String} (hc : zco_at c E = true) : za_el (zg_k g) E (.ref (aA h c i)) σ = some (some (aA h c i)) := by
  unfold za_el
  simp only
  rw [(H.1 c i hi).1]
  unfold acell
  simp only
  rw [if_pos hc]
/-- an array of objects -/
theorem aW_anewa (H : aRep (zg_n g) σ h) (hx : r_i k pc = some (.anewarray idx, 3)) (h0 : ¬ t < 0 ∧ t.toNatClampNeg ≤ 1000000) (hl : zl_at (r_o k) idx = some C) {kd : Nat} (hk : zb_kind C = some kd) (hr : ∀ σ' : zS, aRep (zg_n g) σ' (anewA h σ.2.1 (kd, t.toNatClampNeg, .inr (.inr (.inr (.inr (fun _ => none)))))) → σ'.2 = (σ.2.1 + 1, σ.2.2 + t.toNatClampNeg) → zW g d k (pc + 3) lv (.ref (aB (anewA h σ.2.1 (kd, t.toNatClampNeg, .inr (.inr (.inr (.inr (fun _ => none)))))) (aM h)) :: st) σ' Q) : zW g d k pc lv (.int t :: st) σ Q := by
  have e1 : aB (anewA h σ.2.1 (kd, t.toNatClampNeg, .inr (.inr (.inr (.inr (fun _ => none)))))) (aM h) = σ.2.1 := by
    show (if aM h = aM h then σ.2.1 else _) = _
    rw [if_pos rfl]
  have h1 := hr _ (aRep.newA (m := t.toNatClampNeg) H) rfl
  rw [e1] at h1
  refine zW_heap (f := ((pc + 3, lv, .ref σ.2.1 :: st), (zw_up σ.1 σ.2.1 (.inl (kd, t.toNatClampNeg, .inr (.inr (.inr (.inr (fun _ => none)))))), σ.2.1 + 1, σ.2.2 + t.toNatClampNeg))) hx rfl ?_ h1
  unfold zheap
  simp only
  unfold zb_astep
  rw [if_pos h0, hl]
  simp only
  rw [hk]
  rfl
end ZWQ
