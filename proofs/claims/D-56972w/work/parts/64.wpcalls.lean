/-! RUNS BY THEIR ENDS: calls of each kind -/
set_option maxRecDepth 100000
theorem zsplit {st As rest : List Value} {v : Value} {n : Nat} (hst : st = As.reverse ++ v :: rest) (hn : As.length = n) : st.drop n = v :: rest ∧ (st.take n).reverse = As ∧ n ≤ st.length := by
  subst hst
  subst hn
  refine ⟨?_, ?_, ?_⟩
  · rw [← List.length_reverse, List.drop_left]
  · rw [← List.length_reverse, List.take_left, List.reverse_reverse]
  · rw [List.length_append, List.length_reverse]; omega
theorem zsplit0 {st As rest : List Value} {n : Nat} (hst : st = As.reverse ++ rest) (hn : As.length = n) : st.drop n = rest ∧ (st.take n).reverse = As ∧ n ≤ st.length := by
  subst hst
  subst hn
  refine ⟨?_, ?_, ?_⟩
  · rw [← List.length_reverse, List.drop_left]
  · rw [← List.length_reverse, List.take_left, List.reverse_reverse]
  · rw [List.length_append, List.length_reverse]; omega
theorem zs_getC_none {mi own idx pc : Nat} {lv : zp_L} {st : List Value} {σ : zS} (h : (own == 22 && idx == 86) = false) : zs_getC mi own idx pc lv st σ = none := by
  unfold zs_getC
  split
  · split
    · rw [if_neg]
      rintro ⟨-, rfl, rfl, -⟩
      cases h
    · rfl
  · rfl
theorem zxs_math_none {own idx pc : Nat} {lv : zp_L} {st : List Value} {σ : zS} (h : zxs_at own idx = none) : zxs_math own idx pc lv st σ = none := by
  unfold zxs_math
  rw [h]
theorem zs_copy_none {n0 own idx pc : Nat} {K : List (String × Nat)} {lv : zp_L} {st : List Value} {σ : zS} (h : ((own == 1 && idx == 112) || (own == 22 && idx == 150)) = false) : zs_copy n0 K own idx pc lv st σ = none := by
  have hn : ¬ ((own = 1 ∧ idx = 112) ∨ (own = 22 ∧ idx = 150)) := by
    rintro (⟨rfl, rfl⟩ | ⟨rfl, rfl⟩) <;> cases h
  unfold zs_copy
  split
  · split
    · split
      · rw [if_neg (fun q => hn q.1)]
      · rfl
    · rfl
  · rfl
theorem zheap_spec {g : zG} {own idx pc : Nat} {nm : String} {L : List zIt} {lv : zp_L} {σ : zS} (h : zxs_at own idx = none) : ∀ st : List Value, zheap g own nm L (.invokespecial idx) 3 pc lv st σ = none := by
  intro st
  cases st with
  | nil => rfl
  | cons v t =>
    cases v with
    | ref a =>
      show Option.map Sum.inl (zxs_init own idx pc lv t σ) = none
      unfold zxs_init
      rw [h, if_neg (fun q => by cases q.1)]
      rfl
    | _ => rfl
section ZWC
variable {g : zG} {d k pc : Nat} {lv : zp_L} {st As rest : List Value} {σ : zS} {Q Q1 : Option Value ⊕ String → zS → Prop} {h : aH} {c i idx b ci cnt n : Nat} {x : Nat × Nat} {μ' : zMt} {C : String} {fs : List Value}
theorem aRep.rc (H : aRep (zg_n g) σ h) (hi : i < aN h c) {r : vw_C} (hc : zcl[c]? = some r) : zrc g σ (aA h c i) = some r.1 := by
  unfold zrc
  rw [(H.1 c i hi).1]
  unfold acell
  simp only
  rw [hc]
  rfl
/-- the end of a call that returns: what follows -/
abbrev zK (g : zG) (d k pc : Nat) (lv : zp_L) (rest : List Value) (σ : zS) (Q1 Q : Option Value ⊕ String → zS → Prop) : Prop := ∀ (o : Option Value ⊕ String) (σ1 : zS), zle σ σ1 → Q1 o σ1 → ∃ v, o = .inl v ∧ zW g (d + 1) k pc lv (v.toList ++ rest) σ1 Q
/-- a virtual call; the receiver's class is the method's own -/
theorem aW_V (hx : r_i k pc = some (.invokevirtual idx, 3)) (hno : (r_o k == 22 && idx == 86) = false) (hV : zcV_at (r_o k) idx = some x) (hm : zck x.1 false = some μ') (hrc : zrc g σ b = some μ'.1.cls) (hst : st = As.reverse ++ .ref b :: rest) (hn : As.length = x.2) (h6 : zc6 rest = true) (hl : (lg_sl (.ref b :: As)).length ≤ μ'.2.2.1)
    (hrun : zM g d x.1 (.ref b :: As) σ Q1) (hk : zK g d k (pc + 3) lv rest σ Q1 Q) : zW g (d + 1) k pc lv st σ Q := by
  obtain ⟨e1, e2, e3⟩ := zsplit hst hn
  refine zW_call (y := (x.1, .ref b :: As, rest, 3)) hx rfl ?_ rfl ?_ hm h6 hl hrun hk
  · unfold zheap
    simp only
    rw [zs_getC_none hno]
    rfl
  · unfold zcall
    simp only
    rw [hV]
    simp only
    rw [(zck_some hm).1, e1]
    simp only
    rw [if_pos hrc, e2]
/-- a virtual call of an inherited method, or of a constant's -/
theorem aW_U (hx : r_i k pc = some (.invokevirtual idx, 3)) (hno : (r_o k == 22 && idx == 86) = false) (hV : zcV_at (r_o k) idx = none) (hU : zun (r_o k) idx = some n) (hrc : zrc g σ b = some C) (hu : zu_at (r_o k) idx C = some (x.1, n)) (hm : zck x.1 false = some μ') (hst : st = As.reverse ++ .ref b :: rest) (hn : As.length = n) (h6 : zc6 rest = true) (hl : (lg_sl (.ref b :: As)).length ≤ μ'.2.2.1)
    (hrun : zM g d x.1 (.ref b :: As) σ Q1) (hk : zK g d k (pc + 3) lv rest σ Q1 Q) : zW g (d + 1) k pc lv st σ Q := by
  obtain ⟨e1, e2, e3⟩ := zsplit hst hn
  refine zW_call (y := (x.1, .ref b :: As, rest, 3)) hx rfl ?_ rfl ?_ hm h6 hl hrun hk
  · unfold zheap
    simp only
    rw [zs_getC_none hno]
    rfl
  · unfold zcall
    simp only
    rw [hV]
    simp only
    rw [hU]
    simp only
    rw [e1]
    simp only
    rw [hrc]
    simp only
    rw [hu]
    simp only
    rw [if_pos trivial, e2]
theorem aW_S (hx : r_i k pc = some (.invokestatic idx, 3)) (hno : zxs_at (r_o k) idx = none) (hno2 : ((r_o k == 1 && idx == 112) || (r_o k == 22 && idx == 150)) = false) (hS : zcS_at (r_o k) idx = some x) (hm : zck x.1 false = some μ') (hst : st = As.reverse ++ rest) (hn : As.length = x.2) (h6 : zc6 rest = true) (hl : (lg_sl As).length ≤ μ'.2.2.1)
    (hrun : zM g d x.1 As σ Q1) (hk : zK g d k (pc + 3) lv rest σ Q1 Q) : zW g (d + 1) k pc lv st σ Q := by
  obtain ⟨e1, e2, e3⟩ := zsplit0 hst hn
  refine zW_call (y := (x.1, As, rest, 3)) hx rfl ?_ rfl ?_ hm h6 hl hrun hk
  · unfold zheap
    simp only
    rw [zxs_math_none hno]
    simp only
    rw [zs_copy_none hno2]
    rfl
  · unfold zcall
    simp only
    rw [hS]
    simp only
    rw [if_pos e3, e1, e2]
theorem aW_N (hx : r_i k pc = some (.invokestatic idx, 3)) (hno : zxs_at (r_o k) idx = none) (hno2 : ((r_o k == 1 && idx == 112) || (r_o k == 22 && idx == 150)) = false) (hS : zcS_at (r_o k) idx = none) (hN : zcN_at (r_o k) idx = some x) (hm : zck x.1 false = some μ') (hm2 : zck x.1 true = some μ') (hst : st = As.reverse ++ rest) (hn : As.length = x.2) (h6 : zc6 rest = true) (hl : (lg_sl As).length ≤ μ'.2.2.1)
    (hrun : zM g d x.1 As σ Q1) (hk : zK g d k (pc + 3) lv rest σ Q1 Q) : zW g (d + 1) k pc lv st σ Q := by
  obtain ⟨e1, e2, e3⟩ := zsplit0 hst hn
  refine zW_call (y := (x.1, As, rest, 3)) hx rfl ?_ rfl ?_ hm h6 hl hrun hk
  · unfold zheap
    simp only
    rw [zxs_math_none hno]
    simp only
    rw [zs_copy_none hno2]
    rfl
  · unfold zcall
    simp only
    rw [hS]
    simp only
    rw [hN]
    simp only
    rw [if_pos ⟨e3, by rw [hm2]; rfl⟩, e1, e2]
/-- a constructor -/
theorem aW_I (hx : r_i k pc = some (.invokespecial idx, 3)) (hno : zxs_at (r_o k) idx = none) (hI : zcI_at (r_o k) idx = some x) (hm : zck x.1 false = some μ') (hm2 : zck x.1 true = some μ') (hret : μ'.2.2.2.1 = none) (hst : st = As.reverse ++ .ref b :: rest) (hn : As.length = x.2) (h6 : zc6 rest = true) (hl : (lg_sl (.ref b :: As)).length ≤ μ'.2.2.1)
    (hrun : zM g d x.1 (.ref b :: As) σ Q1) (hk : zK g d k (pc + 3) lv rest σ Q1 Q) : zW g (d + 1) k pc lv st σ Q := by
  obtain ⟨e1, e2, e3⟩ := zsplit hst hn
  refine zW_call (y := (x.1, .ref b :: As, rest, 3)) hx rfl ?_ rfl ?_ hm h6 hl hrun hk
  · exact zheap_spec hno st
  · unfold zcall
    simp only
    rw [hI]
    simp only
    rw [hm2, e1]
    simp only
    rw [if_pos hret, e2]
/-- a call through an interface -/
theorem aW_F (hx : r_i k pc = some (.invokeinterface idx cnt, 5)) (hj : zjn (r_o k) idx = some n) (hw : σ.1 b = some (.inr (ci, fs))) (hj2 : zj_at (r_o k) idx ci = some (x.1, n)) (hm : zck x.1 false = some μ') (hm2 : zck x.1 true = some μ') (hst : st = As.reverse ++ .ref b :: rest) (hn : As.length = n) (h6 : zc6 rest = true) (hl : (lg_sl (.ref b :: As)).length ≤ μ'.2.2.1)
    (hrun : zM g d x.1 (.ref b :: As) σ Q1) (hk : zK g d k (pc + 5) lv rest σ Q1 Q) : zW g (d + 1) k pc lv st σ Q := by
  obtain ⟨e1, e2, e3⟩ := zsplit hst hn
  refine zW_call (y := (x.1, .ref b :: As, rest, 5)) hx rfl rfl rfl ?_ hm h6 hl hrun hk
  unfold zcall
  simp only
  rw [hj]
  simp only
  rw [e1]
  simp only
  rw [hw]
  simp only
  rw [hj2]
  simp only
  rw [if_pos ⟨trivial, by rw [hm2]; rfl⟩, e2]
end ZWC
