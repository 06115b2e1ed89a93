/-! CALLS THAT THROW: left, or caught -/
set_option maxRecDepth 100000
section ZTC
variable {g : zG} {d d1 k pc idx b cnt n h : Nat} {lv lv1 : zp_L} {st rest : List Value} {σ σ1 : zS} {Q : Option Value ⊕ String → zS → Prop} {C E : String} {x : Nat × Nat} {μ' : zMt} {z : Nat × zp_L}
theorem wVT (hx : r_i k pc = some (.invokevirtual idx, 3)) (hno : (r_o k == 22 && idx == 86) = false) (hV : zcV_at (r_o k) idx = some x) (hm : zck x.1 false = some μ') (hst : st.drop x.2 = .ref b :: rest) (h6 : zc6 rest = true) (hl : Nat.ble (lg_sl (.ref b :: (st.take x.2).reverse)).length μ'.2.2.1 = true) (hrc : zrc g σ b = some μ'.1.cls)
    (hrun : zEnd g d1 x.1 (.ref b :: (st.take x.2).reverse) σ (.inr E) σ1) (hd : d1 < d) (hhd : zhd (r_o k) pc E (r_m k).2.2.2.2 = some none) (hq : Q (.inr E) σ1) : zW g d k pc lv st σ Q := by
  refine wcallT (Y := (x.1, .ref b :: (st.take x.2).reverse, rest, 3)) hx rfl ?_ rfl ?_ hm h6 hl hrun hd rfl hhd hq
  · unfold zheap
    simp only
    rw [zs_getC_none hno]
    rfl
  · unfold zcall
    simp only
    rw [hV]
    simp only
    rw [(zck_some hm).1, hst]
    simp only
    rw [if_pos hrc]
theorem wVC (hx : r_i k pc = some (.invokevirtual idx, 3)) (hno : (r_o k == 22 && idx == 86) = false) (hV : zcV_at (r_o k) idx = some x) (hm : zck x.1 false = some μ') (hst : st.drop x.2 = .ref b :: rest) (h6 : zc6 rest = true) (hl : Nat.ble (lg_sl (.ref b :: (st.take x.2).reverse)).length μ'.2.2.1 = true) (hrc : zrc g σ b = some μ'.1.cls)
    (hrun : zEnd g d1 x.1 (.ref b :: (st.take x.2).reverse) σ (.inr E) σ1) (hd : d1 < d) (hhd : zhd (r_o k) pc E (r_m k).2.2.2.2 = some (some h)) (hz2 : zland (r_c k) (r_l k) h lv = some (z.1, lv1)) (hr : zW g d k z.1 lv1 [] σ1 Q) : zW g d k pc lv st σ Q := by
  refine wcallC (Y := (x.1, .ref b :: (st.take x.2).reverse, rest, 3)) hx rfl ?_ rfl ?_ hm h6 hl hrun hd rfl hhd hz2 hr
  · unfold zheap
    simp only
    rw [zs_getC_none hno]
    rfl
  · unfold zcall
    simp only
    rw [hV]
    simp only
    rw [(zck_some hm).1, hst]
    simp only
    rw [if_pos hrc]
theorem wST (hx : r_i k pc = some (.invokestatic idx, 3)) (hno : zxs_at (r_o k) idx = none) (hno2 : ((r_o k == 1 && idx == 112) || (r_o k == 22 && idx == 150)) = false) (hS : zcS_at (r_o k) idx = some x) (hm : zck x.1 false = some μ') (hst : st.drop x.2 = rest) (hn : Nat.ble x.2 st.length = true) (h6 : zc6 rest = true) (hl : Nat.ble (lg_sl (st.take x.2).reverse).length μ'.2.2.1 = true)
    (hrun : zEnd g d1 x.1 (st.take x.2).reverse σ (.inr E) σ1) (hd : d1 < d) (hhd : zhd (r_o k) pc E (r_m k).2.2.2.2 = some none) (hq : Q (.inr E) σ1) : zW g d k pc lv st σ Q := by
  refine wcallT (Y := (x.1, (st.take x.2).reverse, rest, 3)) hx rfl ?_ rfl ?_ hm h6 hl hrun hd rfl hhd hq
  · unfold zheap
    simp only
    rw [zxs_math_none hno]
    simp only
    rw [zs_copy_none hno2]
    rfl
  · unfold zcall
    simp only
    rw [hS]
    simp only
    rw [if_pos (Nat.le_of_ble_eq_true hn), hst]
theorem wSC (hx : r_i k pc = some (.invokestatic idx, 3)) (hno : zxs_at (r_o k) idx = none) (hno2 : ((r_o k == 1 && idx == 112) || (r_o k == 22 && idx == 150)) = false) (hS : zcS_at (r_o k) idx = some x) (hm : zck x.1 false = some μ') (hst : st.drop x.2 = rest) (hn : Nat.ble x.2 st.length = true) (h6 : zc6 rest = true) (hl : Nat.ble (lg_sl (st.take x.2).reverse).length μ'.2.2.1 = true)
    (hrun : zEnd g d1 x.1 (st.take x.2).reverse σ (.inr E) σ1) (hd : d1 < d) (hhd : zhd (r_o k) pc E (r_m k).2.2.2.2 = some (some h)) (hz2 : zland (r_c k) (r_l k) h lv = some (z.1, lv1)) (hr : zW g d k z.1 lv1 [] σ1 Q) : zW g d k pc lv st σ Q := by
  refine wcallC (Y := (x.1, (st.take x.2).reverse, rest, 3)) hx rfl ?_ rfl ?_ hm h6 hl hrun hd rfl hhd hz2 hr
  · unfold zheap
    simp only
    rw [zxs_math_none hno]
    simp only
    rw [zs_copy_none hno2]
    rfl
  · unfold zcall
    simp only
    rw [hS]
    simp only
    rw [if_pos (Nat.le_of_ble_eq_true hn), hst]
theorem wNT (hx : r_i k pc = some (.invokestatic idx, 3)) (hno : zxs_at (r_o k) idx = none) (hno2 : ((r_o k == 1 && idx == 112) || (r_o k == 22 && idx == 150)) = false) (hS : zcS_at (r_o k) idx = none) (hN : zcN_at (r_o k) idx = some x) (hm : zck x.1 false = some μ') (hm2 : zck x.1 true = some μ') (hst : st.drop x.2 = rest) (hn : Nat.ble x.2 st.length = true) (h6 : zc6 rest = true) (hl : Nat.ble (lg_sl (st.take x.2).reverse).length μ'.2.2.1 = true)
    (hrun : zEnd g d1 x.1 (st.take x.2).reverse σ (.inr E) σ1) (hd : d1 < d) (hhd : zhd (r_o k) pc E (r_m k).2.2.2.2 = some none) (hq : Q (.inr E) σ1) : zW g d k pc lv st σ Q := by
  refine wcallT (Y := (x.1, (st.take x.2).reverse, rest, 3)) hx rfl ?_ rfl ?_ hm h6 hl hrun hd rfl hhd hq
  · unfold zheap
    simp only
    rw [zxs_math_none hno]
    simp only
    rw [zs_copy_none hno2]
    rfl
  · unfold zcall
    simp only
    rw [hS]
    simp only
    rw [hN]
    simp only
    rw [if_pos ⟨Nat.le_of_ble_eq_true hn, by rw [hm2]; rfl⟩, hst]
theorem wNC (hx : r_i k pc = some (.invokestatic idx, 3)) (hno : zxs_at (r_o k) idx = none) (hno2 : ((r_o k == 1 && idx == 112) || (r_o k == 22 && idx == 150)) = false) (hS : zcS_at (r_o k) idx = none) (hN : zcN_at (r_o k) idx = some x) (hm : zck x.1 false = some μ') (hm2 : zck x.1 true = some μ') (hst : st.drop x.2 = rest) (hn : Nat.ble x.2 st.length = true) (h6 : zc6 rest = true) (hl : Nat.ble (lg_sl (st.take x.2).reverse).length μ'.2.2.1 = true)
    (hrun : zEnd g d1 x.1 (st.take x.2).reverse σ (.inr E) σ1) (hd : d1 < d) (hhd : zhd (r_o k) pc E (r_m k).2.2.2.2 = some (some h)) (hz2 : zland (r_c k) (r_l k) h lv = some (z.1, lv1)) (hr : zW g d k z.1 lv1 [] σ1 Q) : zW g d k pc lv st σ Q := by
  refine wcallC (Y := (x.1, (st.take x.2).reverse, rest, 3)) hx rfl ?_ rfl ?_ hm h6 hl hrun hd rfl hhd hz2 hr
  · unfold zheap
    simp only
    rw [zxs_math_none hno]
    simp only
    rw [zs_copy_none hno2]
    rfl
  · unfold zcall
    simp only
    rw [hS]
    simp only
    rw [hN]
    simp only
    rw [if_pos ⟨Nat.le_of_ble_eq_true hn, by rw [hm2]; rfl⟩, hst]
theorem wIT (hx : r_i k pc = some (.invokespecial idx, 3)) (hno : zxs_at (r_o k) idx = none) (hI : zcI_at (r_o k) idx = some x) (hm : zck x.1 false = some μ') (hm2 : zck x.1 true = some μ') (hret : μ'.2.2.2.1 = none) (hst : st.drop x.2 = .ref b :: rest) (h6 : zc6 rest = true) (hl : Nat.ble (lg_sl (.ref b :: (st.take x.2).reverse)).length μ'.2.2.1 = true)
    (hrun : zEnd g d1 x.1 (.ref b :: (st.take x.2).reverse) σ (.inr E) σ1) (hd : d1 < d) (hhd : zhd (r_o k) pc E (r_m k).2.2.2.2 = some none) (hq : Q (.inr E) σ1) : zW g d k pc lv st σ Q := by
  refine wcallT (Y := (x.1, .ref b :: (st.take x.2).reverse, rest, 3)) hx rfl ?_ rfl ?_ hm h6 hl hrun hd rfl hhd hq
  · exact zheap_spec hno st
  · unfold zcall
    simp only
    rw [hI]
    simp only
    rw [hm2, hst]
    simp only
    rw [if_pos hret]
theorem wIC (hx : r_i k pc = some (.invokespecial idx, 3)) (hno : zxs_at (r_o k) idx = none) (hI : zcI_at (r_o k) idx = some x) (hm : zck x.1 false = some μ') (hm2 : zck x.1 true = some μ') (hret : μ'.2.2.2.1 = none) (hst : st.drop x.2 = .ref b :: rest) (h6 : zc6 rest = true) (hl : Nat.ble (lg_sl (.ref b :: (st.take x.2).reverse)).length μ'.2.2.1 = true)
    (hrun : zEnd g d1 x.1 (.ref b :: (st.take x.2).reverse) σ (.inr E) σ1) (hd : d1 < d) (hhd : zhd (r_o k) pc E (r_m k).2.2.2.2 = some (some h)) (hz2 : zland (r_c k) (r_l k) h lv = some (z.1, lv1)) (hr : zW g d k z.1 lv1 [] σ1 Q) : zW g d k pc lv st σ Q := by
  refine wcallC (Y := (x.1, .ref b :: (st.take x.2).reverse, rest, 3)) hx rfl ?_ rfl ?_ hm h6 hl hrun hd rfl hhd hz2 hr
  · exact zheap_spec hno st
  · unfold zcall
    simp only
    rw [hI]
    simp only
    rw [hm2, hst]
    simp only
    rw [if_pos hret]
end ZTC
