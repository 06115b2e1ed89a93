/-! THE LAW's helpers (printed by tools/helpers.py): what they answer when the call returns, and when it throws -/
set_option maxRecDepth 100000
def wLA (f : Nat → Int64) : va_E := .inl (4, 1, .inr (.inl f))
def wDA (f : Nat → UInt64) : va_E := .inl (5, 1, .inr (.inr (.inr (.inl f))))
section ZLH
variable {g : zG} {w0 : hG} {σ σ1 : zS} {gh gh1 : Nat → Nat → Nat} {S S1 : hS} {J : zw_W} {a b d d1 k pc : Nat} {p1 p2 p3 p4 p5 r : Int} {v : Bool} {f : Nat → Int64} {fd : Nat → UInt64} {lv : zp_L} {st : List Value} {Q : Option Value ⊕ String → zS → Prop}
theorem wW_dast {f : Nat → UInt64} {y : UInt64} {j : Int32} {n : Nat} (hx : r_i k pc = some (.dastore, 1)) (hw : σ.1 a = some (.inl (5, n, .inr (.inr (.inr (.inl f)))))) (hin : za_in j n = true) (hn0 : zg_n g ≤ a) (hr : zW g d k (pc + 1) lv st (zw_up σ.1 a (.inl (5, n, .inr (.inr (.inr (.inl (va_up f j.toNatClampNeg y)))))), σ.2) Q) : zW g d k pc lv (.double y :: .int j :: .ref a :: st) σ Q := by
  refine zW_heap (f := ((pc + 1, lv, st), (zw_up σ.1 a (.inl (5, n, .inr (.inr (.inr (.inl (va_up f j.toNatClampNeg y)))))), σ.2))) hx rfl ?_ hr
  unfold zheap
  simp only
  unfold za_store
  rw [hw]
  simp only
  rw [if_pos ⟨trivial, hin, hn0⟩]
  rfl
theorem zW_f2d {x : UInt32} (hx : r_i k pc = some (.f2d, 1)) (h0 : FP.Core.dIsNaN (FP.f2d x) = false) (hr : zW g d k (pc + 1) lv (.double (FP.f2d x) :: st) σ Q) : zW g d k pc lv (.float x :: st) σ Q := by
  refine zW_ps 1 (f := (pc + 1, lv, .double (FP.f2d x) :: st)) ?_ hr
  unfold zps
  rw [hx]
  simp only
  have e : zp_step .f2d 1 pc (r_l k) lv (.float x :: st) = some (pc + 1, lv, .double (FP.f2d x) :: st) := by
    show (match (if FP.f2d x &&& 0x7fffffffffffffff ≤ 0x7ff0000000000000 then some (pc + 1, lv, Value.double (FP.f2d x) :: st) else none) with | some f => some f | none => zp_jump .f2d 1 pc lv (.float x :: st)) = _
    rw [if_pos (zf_ok64 h0)]
  rw [e]
  rfl
theorem Lh_addMachine (H : hRep g w0 σ gh S J) (ha : hat gh S 0 0 a) (hrun : zEnd g d1 36 [.ref a, iv p1, iv p2, iv p3, iv p4] σ (.inl (some (iv r))) σ1) (hd : d1 < d) (H1 : hRep g w0 σ1 gh1 S1 J) (hJ : J b = some (wLA f)) (hr : rg r) :
    ∃ σ2 : zS, zEnd g d 35 [.ref a, iv p1, iv p2, iv p3, iv p4, .ref b] σ (.inl (some (iv 0))) σ2 ∧ hRep g w0 σ2 gh1 S1 (zw_up J b (wLA (va_up f 0 (Int64.ofInt r)))) ∧ σ2.2 = σ1.2 := by
  obtain ⟨j1, j2, j3, j4⟩ := H1.jat hJ
  have main : zW g d 35 0 (lv_args 0 [.ref a, iv p1, iv p2, iv p3, iv p4, .ref b]) [] σ (fun o σ' => o = .inl (some (iv 0)) ∧ hRep g w0 σ' gh1 S1 (zw_up J b (wLA (va_up f 0 (Int64.ofInt r)))) ∧ σ'.2 = σ1.2) := by
    refine zW_p 7 rfl ?_
    refine wV rfl rfl rfl rfl rfl rfl rfl (H.rc ha rfl rfl) hrun hd ?_
    refine zW_p 1 rfl ?_
    rw [L_of hr]
    refine wW_last rfl j1 rfl j2 ?_
    refine zW_p 2 rfl ?_
    exact zW_reti rfl rfl rfl ⟨rfl, H1.keepUp hJ, rfl⟩
  obtain ⟨o, σ', h1, rfl, h2, h3⟩ := main
  exact ⟨σ', h1, h2, h3⟩
theorem Lh_addMachineX1 (H : hRep g w0 σ gh S J) (ha : hat gh S 0 0 a) (hrun : zEnd g d1 36 [.ref a, iv p1, iv p2, iv p3, iv p4] σ (.inr "java/lang/IllegalArgumentException") σ1) (hd : d1 < d) : zEnd g d 35 [.ref a, iv p1, iv p2, iv p3, iv p4, .ref b] σ (.inl (some (iv 1))) σ1 := by
  refine zEnd_of ?_
  refine zW_p 7 rfl ?_
  refine wVC (z := (19, [(0, .ref a), (1, iv p1), (2, iv p2), (3, iv p3), (4, iv p4), (5, .ref b)])) rfl rfl rfl rfl rfl rfl rfl (H.rc ha rfl rfl) hrun hd rfl rfl ?_
  refine zW_p 1 rfl ?_
  exact zW_reti rfl rfl rfl ⟨rfl, rfl⟩
theorem Lh_addMachineX2 (H : hRep g w0 σ gh S J) (ha : hat gh S 0 0 a) (hrun : zEnd g d1 36 [.ref a, iv p1, iv p2, iv p3, iv p4] σ (.inr "java/lang/IllegalStateException") σ1) (hd : d1 < d) : zEnd g d 35 [.ref a, iv p1, iv p2, iv p3, iv p4, .ref b] σ (.inl (some (iv 2))) σ1 := by
  refine zEnd_of ?_
  refine zW_p 7 rfl ?_
  refine wVC (z := (23, [(0, .ref a), (1, iv p1), (2, iv p2), (3, iv p3), (4, iv p4), (5, .ref b)])) rfl rfl rfl rfl rfl rfl rfl (H.rc ha rfl rfl) hrun hd rfl rfl ?_
  refine zW_p 1 rfl ?_
  exact zW_reti rfl rfl rfl ⟨rfl, rfl⟩
theorem Lh_addPart (H : hRep g w0 σ gh S J) (ha : hat gh S 0 0 a) (hrun : zEnd g d1 54 [.ref a, iv p1, iv p2] σ (.inl (some (iv r))) σ1) (hd : d1 < d) (H1 : hRep g w0 σ1 gh1 S1 J) (hJ : J b = some (wLA f)) (hr : rg r) :
    ∃ σ2 : zS, zEnd g d 53 [.ref a, iv p1, iv p2, .ref b] σ (.inl (some (iv 0))) σ2 ∧ hRep g w0 σ2 gh1 S1 (zw_up J b (wLA (va_up f 0 (Int64.ofInt r)))) ∧ σ2.2 = σ1.2 := by
  obtain ⟨j1, j2, j3, j4⟩ := H1.jat hJ
  have main : zW g d 53 0 (lv_args 0 [.ref a, iv p1, iv p2, .ref b]) [] σ (fun o σ' => o = .inl (some (iv 0)) ∧ hRep g w0 σ' gh1 S1 (zw_up J b (wLA (va_up f 0 (Int64.ofInt r)))) ∧ σ'.2 = σ1.2) := by
    refine zW_p 5 rfl ?_
    refine wV rfl rfl rfl rfl rfl rfl rfl (H.rc ha rfl rfl) hrun hd ?_
    refine zW_p 1 rfl ?_
    rw [L_of hr]
    refine wW_last rfl j1 rfl j2 ?_
    refine zW_p 2 rfl ?_
    exact zW_reti rfl rfl rfl ⟨rfl, H1.keepUp hJ, rfl⟩
  obtain ⟨o, σ', h1, rfl, h2, h3⟩ := main
  exact ⟨σ', h1, h2, h3⟩
theorem Lh_addPartX1 (H : hRep g w0 σ gh S J) (ha : hat gh S 0 0 a) (hrun : zEnd g d1 54 [.ref a, iv p1, iv p2] σ (.inr "java/lang/IllegalArgumentException") σ1) (hd : d1 < d) : zEnd g d 53 [.ref a, iv p1, iv p2, .ref b] σ (.inl (some (iv 1))) σ1 := by
  refine zEnd_of ?_
  refine zW_p 5 rfl ?_
  refine wVC (z := (15, [(0, .ref a), (1, iv p1), (2, iv p2), (3, .ref b)])) rfl rfl rfl rfl rfl rfl rfl (H.rc ha rfl rfl) hrun hd rfl rfl ?_
  refine zW_p 1 rfl ?_
  exact zW_reti rfl rfl rfl ⟨rfl, rfl⟩
theorem Lh_addPartX2 (H : hRep g w0 σ gh S J) (ha : hat gh S 0 0 a) (hrun : zEnd g d1 54 [.ref a, iv p1, iv p2] σ (.inr "java/lang/IllegalStateException") σ1) (hd : d1 < d) : zEnd g d 53 [.ref a, iv p1, iv p2, .ref b] σ (.inl (some (iv 2))) σ1 := by
  refine zEnd_of ?_
  refine zW_p 5 rfl ?_
  refine wVC (z := (19, [(0, .ref a), (1, iv p1), (2, iv p2), (3, .ref b)])) rfl rfl rfl rfl rfl rfl rfl (H.rc ha rfl rfl) hrun hd rfl rfl ?_
  refine zW_p 1 rfl ?_
  exact zW_reti rfl rfl rfl ⟨rfl, rfl⟩
theorem Lh_addComponent (H : hRep g w0 σ gh S J) (ha : hat gh S 0 0 a) (hrun : zEnd g d1 64 [.ref a, iv p1, iv p2, iv p3, iv p4] σ (.inl (some (iv r))) σ1) (hd : d1 < d) (H1 : hRep g w0 σ1 gh1 S1 J) (hJ : J b = some (wLA f)) (hr : rg r) :
    ∃ σ2 : zS, zEnd g d 58 [.ref a, iv p1, iv p2, iv p3, iv p4, .ref b] σ (.inl (some (iv 0))) σ2 ∧ hRep g w0 σ2 gh1 S1 (zw_up J b (wLA (va_up f 0 (Int64.ofInt r)))) ∧ σ2.2 = σ1.2 := by
  obtain ⟨j1, j2, j3, j4⟩ := H1.jat hJ
  have main : zW g d 58 0 (lv_args 0 [.ref a, iv p1, iv p2, iv p3, iv p4, .ref b]) [] σ (fun o σ' => o = .inl (some (iv 0)) ∧ hRep g w0 σ' gh1 S1 (zw_up J b (wLA (va_up f 0 (Int64.ofInt r)))) ∧ σ'.2 = σ1.2) := by
    refine zW_p 7 rfl ?_
    refine wV rfl rfl rfl rfl rfl rfl rfl (H.rc ha rfl rfl) hrun hd ?_
    refine zW_p 1 rfl ?_
    rw [L_of hr]
    refine wW_last rfl j1 rfl j2 ?_
    refine zW_p 2 rfl ?_
    exact zW_reti rfl rfl rfl ⟨rfl, H1.keepUp hJ, rfl⟩
  obtain ⟨o, σ', h1, rfl, h2, h3⟩ := main
  exact ⟨σ', h1, h2, h3⟩
theorem Lh_addComponentX1 (H : hRep g w0 σ gh S J) (ha : hat gh S 0 0 a) (hrun : zEnd g d1 64 [.ref a, iv p1, iv p2, iv p3, iv p4] σ (.inr "java/lang/IndexOutOfBoundsException") σ1) (hd : d1 < d) : zEnd g d 58 [.ref a, iv p1, iv p2, iv p3, iv p4, .ref b] σ (.inl (some (iv 1))) σ1 := by
  refine zEnd_of ?_
  refine zW_p 7 rfl ?_
  refine wVC (z := (19, [(0, .ref a), (1, iv p1), (2, iv p2), (3, iv p3), (4, iv p4), (5, .ref b)])) rfl rfl rfl rfl rfl rfl rfl (H.rc ha rfl rfl) hrun hd rfl rfl ?_
  refine zW_p 1 rfl ?_
  exact zW_reti rfl rfl rfl ⟨rfl, rfl⟩
theorem Lh_addComponentX2 (H : hRep g w0 σ gh S J) (ha : hat gh S 0 0 a) (hrun : zEnd g d1 64 [.ref a, iv p1, iv p2, iv p3, iv p4] σ (.inr "java/lang/UnsupportedOperationException") σ1) (hd : d1 < d) : zEnd g d 58 [.ref a, iv p1, iv p2, iv p3, iv p4, .ref b] σ (.inl (some (iv 2))) σ1 := by
  refine zEnd_of ?_
  refine zW_p 7 rfl ?_
  refine wVC (z := (23, [(0, .ref a), (1, iv p1), (2, iv p2), (3, iv p3), (4, iv p4), (5, .ref b)])) rfl rfl rfl rfl rfl rfl rfl (H.rc ha rfl rfl) hrun hd rfl rfl ?_
  refine zW_p 1 rfl ?_
  exact zW_reti rfl rfl rfl ⟨rfl, rfl⟩
theorem Lh_addComponentX3 (H : hRep g w0 σ gh S J) (ha : hat gh S 0 0 a) (hrun : zEnd g d1 64 [.ref a, iv p1, iv p2, iv p3, iv p4] σ (.inr "java/lang/IllegalArgumentException") σ1) (hd : d1 < d) : zEnd g d 58 [.ref a, iv p1, iv p2, iv p3, iv p4, .ref b] σ (.inl (some (iv 3))) σ1 := by
  refine zEnd_of ?_
  refine zW_p 7 rfl ?_
  refine wVC (z := (27, [(0, .ref a), (1, iv p1), (2, iv p2), (3, iv p3), (4, iv p4), (5, .ref b)])) rfl rfl rfl rfl rfl rfl rfl (H.rc ha rfl rfl) hrun hd rfl rfl ?_
  refine zW_p 1 rfl ?_
  exact zW_reti rfl rfl rfl ⟨rfl, rfl⟩
theorem Lh_addComponentX4 (H : hRep g w0 σ gh S J) (ha : hat gh S 0 0 a) (hrun : zEnd g d1 64 [.ref a, iv p1, iv p2, iv p3, iv p4] σ (.inr "java/lang/IllegalStateException") σ1) (hd : d1 < d) : zEnd g d 58 [.ref a, iv p1, iv p2, iv p3, iv p4, .ref b] σ (.inl (some (iv 4))) σ1 := by
  refine zEnd_of ?_
  refine zW_p 7 rfl ?_
  refine wVC (z := (31, [(0, .ref a), (1, iv p1), (2, iv p2), (3, iv p3), (4, iv p4), (5, .ref b)])) rfl rfl rfl rfl rfl rfl rfl (H.rc ha rfl rfl) hrun hd rfl rfl ?_
  refine zW_p 1 rfl ?_
  exact zW_reti rfl rfl rfl ⟨rfl, rfl⟩
theorem Lh_addOperation (H : hRep g w0 σ gh S J) (ha : hat gh S 0 0 a) (hrun : zEnd g d1 70 [.ref a, iv p1, iv p2, iv p3, iv p4] σ (.inl (some (iv r))) σ1) (hd : d1 < d) (H1 : hRep g w0 σ1 gh1 S1 J) (hJ : J b = some (wLA f)) (hr : rg r) :
    ∃ σ2 : zS, zEnd g d 69 [.ref a, iv p1, iv p2, iv p3, iv p4, .ref b] σ (.inl (some (iv 0))) σ2 ∧ hRep g w0 σ2 gh1 S1 (zw_up J b (wLA (va_up f 0 (Int64.ofInt r)))) ∧ σ2.2 = σ1.2 := by
  obtain ⟨j1, j2, j3, j4⟩ := H1.jat hJ
  have main : zW g d 69 0 (lv_args 0 [.ref a, iv p1, iv p2, iv p3, iv p4, .ref b]) [] σ (fun o σ' => o = .inl (some (iv 0)) ∧ hRep g w0 σ' gh1 S1 (zw_up J b (wLA (va_up f 0 (Int64.ofInt r)))) ∧ σ'.2 = σ1.2) := by
    refine zW_p 7 rfl ?_
    refine wV rfl rfl rfl rfl rfl rfl rfl (H.rc ha rfl rfl) hrun hd ?_
    refine zW_p 1 rfl ?_
    rw [L_of hr]
    refine wW_last rfl j1 rfl j2 ?_
    refine zW_p 2 rfl ?_
    exact zW_reti rfl rfl rfl ⟨rfl, H1.keepUp hJ, rfl⟩
  obtain ⟨o, σ', h1, rfl, h2, h3⟩ := main
  exact ⟨σ', h1, h2, h3⟩
theorem Lh_addOperationX1 (H : hRep g w0 σ gh S J) (ha : hat gh S 0 0 a) (hrun : zEnd g d1 70 [.ref a, iv p1, iv p2, iv p3, iv p4] σ (.inr "java/lang/IndexOutOfBoundsException") σ1) (hd : d1 < d) : zEnd g d 69 [.ref a, iv p1, iv p2, iv p3, iv p4, .ref b] σ (.inl (some (iv 1))) σ1 := by
  refine zEnd_of ?_
  refine zW_p 7 rfl ?_
  refine wVC (z := (19, [(0, .ref a), (1, iv p1), (2, iv p2), (3, iv p3), (4, iv p4), (5, .ref b)])) rfl rfl rfl rfl rfl rfl rfl (H.rc ha rfl rfl) hrun hd rfl rfl ?_
  refine zW_p 1 rfl ?_
  exact zW_reti rfl rfl rfl ⟨rfl, rfl⟩
theorem Lh_addOperationX2 (H : hRep g w0 σ gh S J) (ha : hat gh S 0 0 a) (hrun : zEnd g d1 70 [.ref a, iv p1, iv p2, iv p3, iv p4] σ (.inr "java/lang/UnsupportedOperationException") σ1) (hd : d1 < d) : zEnd g d 69 [.ref a, iv p1, iv p2, iv p3, iv p4, .ref b] σ (.inl (some (iv 2))) σ1 := by
  refine zEnd_of ?_
  refine zW_p 7 rfl ?_
  refine wVC (z := (23, [(0, .ref a), (1, iv p1), (2, iv p2), (3, iv p3), (4, iv p4), (5, .ref b)])) rfl rfl rfl rfl rfl rfl rfl (H.rc ha rfl rfl) hrun hd rfl rfl ?_
  refine zW_p 1 rfl ?_
  exact zW_reti rfl rfl rfl ⟨rfl, rfl⟩
theorem Lh_addOperationX3 (H : hRep g w0 σ gh S J) (ha : hat gh S 0 0 a) (hrun : zEnd g d1 70 [.ref a, iv p1, iv p2, iv p3, iv p4] σ (.inr "java/lang/IllegalArgumentException") σ1) (hd : d1 < d) : zEnd g d 69 [.ref a, iv p1, iv p2, iv p3, iv p4, .ref b] σ (.inl (some (iv 3))) σ1 := by
  refine zEnd_of ?_
  refine zW_p 7 rfl ?_
  refine wVC (z := (27, [(0, .ref a), (1, iv p1), (2, iv p2), (3, iv p3), (4, iv p4), (5, .ref b)])) rfl rfl rfl rfl rfl rfl rfl (H.rc ha rfl rfl) hrun hd rfl rfl ?_
  refine zW_p 1 rfl ?_
  exact zW_reti rfl rfl rfl ⟨rfl, rfl⟩
theorem Lh_addOperationX4 (H : hRep g w0 σ gh S J) (ha : hat gh S 0 0 a) (hrun : zEnd g d1 70 [.ref a, iv p1, iv p2, iv p3, iv p4] σ (.inr "java/lang/IllegalStateException") σ1) (hd : d1 < d) : zEnd g d 69 [.ref a, iv p1, iv p2, iv p3, iv p4, .ref b] σ (.inl (some (iv 4))) σ1 := by
  refine zEnd_of ?_
  refine zW_p 7 rfl ?_
  refine wVC (z := (31, [(0, .ref a), (1, iv p1), (2, iv p2), (3, iv p3), (4, iv p4), (5, .ref b)])) rfl rfl rfl rfl rfl rfl rfl (H.rc ha rfl rfl) hrun hd rfl rfl ?_
  refine zW_p 1 rfl ?_
  exact zW_reti rfl rfl rfl ⟨rfl, rfl⟩
theorem Lh_receive (H : hRep g w0 σ gh S J) (ha : hat gh S 0 0 a) (hrun : zEnd g d1 74 [.ref a, iv p1, iv p2, iv p3, iv p4, iv p5] σ (.inl (some (iv r))) σ1) (hd : d1 < d) (H1 : hRep g w0 σ1 gh1 S1 J) (hJ : J b = some (wLA f)) (hr : rg r) :
    ∃ σ2 : zS, zEnd g d 73 [.ref a, iv p1, iv p2, iv p3, iv p4, iv p5, .ref b] σ (.inl (some (iv 0))) σ2 ∧ hRep g w0 σ2 gh1 S1 (zw_up J b (wLA (va_up f 0 (Int64.ofInt r)))) ∧ σ2.2 = σ1.2 := by
  obtain ⟨j1, j2, j3, j4⟩ := H1.jat hJ
  have main : zW g d 73 0 (lv_args 0 [.ref a, iv p1, iv p2, iv p3, iv p4, iv p5, .ref b]) [] σ (fun o σ' => o = .inl (some (iv 0)) ∧ hRep g w0 σ' gh1 S1 (zw_up J b (wLA (va_up f 0 (Int64.ofInt r)))) ∧ σ'.2 = σ1.2) := by
    refine zW_p 8 rfl ?_
    refine wV rfl rfl rfl rfl rfl rfl rfl (H.rc ha rfl rfl) hrun hd ?_
    refine zW_p 1 rfl ?_
    rw [L_of hr]
    refine wW_last rfl j1 rfl j2 ?_
    refine zW_p 2 rfl ?_
    exact zW_reti rfl rfl rfl ⟨rfl, H1.keepUp hJ, rfl⟩
  obtain ⟨o, σ', h1, rfl, h2, h3⟩ := main
  exact ⟨σ', h1, h2, h3⟩
theorem Lh_receiveX1 (H : hRep g w0 σ gh S J) (ha : hat gh S 0 0 a) (hrun : zEnd g d1 74 [.ref a, iv p1, iv p2, iv p3, iv p4, iv p5] σ (.inr "java/lang/IndexOutOfBoundsException") σ1) (hd : d1 < d) : zEnd g d 73 [.ref a, iv p1, iv p2, iv p3, iv p4, iv p5, .ref b] σ (.inl (some (iv 1))) σ1 := by
  refine zEnd_of ?_
  refine zW_p 8 rfl ?_
  refine wVC (z := (21, [(0, .ref a), (1, iv p1), (2, iv p2), (3, iv p3), (4, iv p4), (5, iv p5), (6, .ref b)])) rfl rfl rfl rfl rfl rfl rfl (H.rc ha rfl rfl) hrun hd rfl rfl ?_
  refine zW_p 1 rfl ?_
  exact zW_reti rfl rfl rfl ⟨rfl, rfl⟩
theorem Lh_receiveX2 (H : hRep g w0 σ gh S J) (ha : hat gh S 0 0 a) (hrun : zEnd g d1 74 [.ref a, iv p1, iv p2, iv p3, iv p4, iv p5] σ (.inr "java/lang/UnsupportedOperationException") σ1) (hd : d1 < d) : zEnd g d 73 [.ref a, iv p1, iv p2, iv p3, iv p4, iv p5, .ref b] σ (.inl (some (iv 2))) σ1 := by
  refine zEnd_of ?_
  refine zW_p 8 rfl ?_
  refine wVC (z := (25, [(0, .ref a), (1, iv p1), (2, iv p2), (3, iv p3), (4, iv p4), (5, iv p5), (6, .ref b)])) rfl rfl rfl rfl rfl rfl rfl (H.rc ha rfl rfl) hrun hd rfl rfl ?_
  refine zW_p 1 rfl ?_
  exact zW_reti rfl rfl rfl ⟨rfl, rfl⟩
theorem Lh_receiveX3 (H : hRep g w0 σ gh S J) (ha : hat gh S 0 0 a) (hrun : zEnd g d1 74 [.ref a, iv p1, iv p2, iv p3, iv p4, iv p5] σ (.inr "java/lang/IllegalArgumentException") σ1) (hd : d1 < d) : zEnd g d 73 [.ref a, iv p1, iv p2, iv p3, iv p4, iv p5, .ref b] σ (.inl (some (iv 3))) σ1 := by
  refine zEnd_of ?_
  refine zW_p 8 rfl ?_
  refine wVC (z := (29, [(0, .ref a), (1, iv p1), (2, iv p2), (3, iv p3), (4, iv p4), (5, iv p5), (6, .ref b)])) rfl rfl rfl rfl rfl rfl rfl (H.rc ha rfl rfl) hrun hd rfl rfl ?_
  refine zW_p 1 rfl ?_
  exact zW_reti rfl rfl rfl ⟨rfl, rfl⟩
theorem Lh_receiveX4 (H : hRep g w0 σ gh S J) (ha : hat gh S 0 0 a) (hrun : zEnd g d1 74 [.ref a, iv p1, iv p2, iv p3, iv p4, iv p5] σ (.inr "java/lang/IllegalStateException") σ1) (hd : d1 < d) : zEnd g d 73 [.ref a, iv p1, iv p2, iv p3, iv p4, iv p5, .ref b] σ (.inl (some (iv 4))) σ1 := by
  refine zEnd_of ?_
  refine zW_p 8 rfl ?_
  refine wVC (z := (33, [(0, .ref a), (1, iv p1), (2, iv p2), (3, iv p3), (4, iv p4), (5, iv p5), (6, .ref b)])) rfl rfl rfl rfl rfl rfl rfl (H.rc ha rfl rfl) hrun hd rfl rfl ?_
  refine zW_p 1 rfl ?_
  exact zW_reti rfl rfl rfl ⟨rfl, rfl⟩
theorem Lh_rule (H : hRep g w0 σ gh S J) (ha : hat gh S 0 0 a) (hrun : zEnd g d1 86 [.ref a, iv p1] σ (.inl (some (iv r))) σ1) (hd : d1 < d) (H1 : hRep g w0 σ1 gh1 S1 J) (hJ : J b = some (wLA f)) (hr : rg r) :
    ∃ σ2 : zS, zEnd g d 85 [.ref a, iv p1, .ref b] σ (.inl (some (iv 0))) σ2 ∧ hRep g w0 σ2 gh1 S1 (zw_up J b (wLA (va_up f 0 (Int64.ofInt r)))) ∧ σ2.2 = σ1.2 := by
  obtain ⟨j1, j2, j3, j4⟩ := H1.jat hJ
  have main : zW g d 85 0 (lv_args 0 [.ref a, iv p1, .ref b]) [] σ (fun o σ' => o = .inl (some (iv 0)) ∧ hRep g w0 σ' gh1 S1 (zw_up J b (wLA (va_up f 0 (Int64.ofInt r)))) ∧ σ'.2 = σ1.2) := by
    refine zW_p 4 rfl ?_
    refine wV rfl rfl rfl rfl rfl rfl rfl (H.rc ha rfl rfl) hrun hd ?_
    refine zW_p 1 rfl ?_
    rw [L_of hr]
    refine wW_last rfl j1 rfl j2 ?_
    refine zW_p 2 rfl ?_
    exact zW_reti rfl rfl rfl ⟨rfl, H1.keepUp hJ, rfl⟩
  obtain ⟨o, σ', h1, rfl, h2, h3⟩ := main
  exact ⟨σ', h1, h2, h3⟩
theorem Lh_ruleX1 (H : hRep g w0 σ gh S J) (ha : hat gh S 0 0 a) (hrun : zEnd g d1 86 [.ref a, iv p1] σ (.inr "java/lang/IndexOutOfBoundsException") σ1) (hd : d1 < d) : zEnd g d 85 [.ref a, iv p1, .ref b] σ (.inl (some (iv 1))) σ1 := by
  refine zEnd_of ?_
  refine zW_p 4 rfl ?_
  refine wVC (z := (13, [(0, .ref a), (1, iv p1), (2, .ref b)])) rfl rfl rfl rfl rfl rfl rfl (H.rc ha rfl rfl) hrun hd rfl rfl ?_
  refine zW_p 1 rfl ?_
  exact zW_reti rfl rfl rfl ⟨rfl, rfl⟩
theorem Lh_hold (H : hRep g w0 σ gh S J) (ha : hat gh S 0 0 a) (hrun : zEnd g d1 88 [.ref a, iv p1, iv p2] σ (.inl (some (iv r))) σ1) (hd : d1 < d) (H1 : hRep g w0 σ1 gh1 S1 J) (hJ : J b = some (wLA f)) (hr : rg r) :
    ∃ σ2 : zS, zEnd g d 87 [.ref a, iv p1, iv p2, .ref b] σ (.inl (some (iv 0))) σ2 ∧ hRep g w0 σ2 gh1 S1 (zw_up J b (wLA (va_up f 0 (Int64.ofInt r)))) ∧ σ2.2 = σ1.2 := by
  obtain ⟨j1, j2, j3, j4⟩ := H1.jat hJ
  have main : zW g d 87 0 (lv_args 0 [.ref a, iv p1, iv p2, .ref b]) [] σ (fun o σ' => o = .inl (some (iv 0)) ∧ hRep g w0 σ' gh1 S1 (zw_up J b (wLA (va_up f 0 (Int64.ofInt r)))) ∧ σ'.2 = σ1.2) := by
    refine zW_p 5 rfl ?_
    refine wV rfl rfl rfl rfl rfl rfl rfl (H.rc ha rfl rfl) hrun hd ?_
    refine zW_p 1 rfl ?_
    rw [L_of hr]
    refine wW_last rfl j1 rfl j2 ?_
    refine zW_p 2 rfl ?_
    exact zW_reti rfl rfl rfl ⟨rfl, H1.keepUp hJ, rfl⟩
  obtain ⟨o, σ', h1, rfl, h2, h3⟩ := main
  exact ⟨σ', h1, h2, h3⟩
theorem Lh_holdX1 (H : hRep g w0 σ gh S J) (ha : hat gh S 0 0 a) (hrun : zEnd g d1 88 [.ref a, iv p1, iv p2] σ (.inr "java/lang/IndexOutOfBoundsException") σ1) (hd : d1 < d) : zEnd g d 87 [.ref a, iv p1, iv p2, .ref b] σ (.inl (some (iv 1))) σ1 := by
  refine zEnd_of ?_
  refine zW_p 5 rfl ?_
  refine wVC (z := (15, [(0, .ref a), (1, iv p1), (2, iv p2), (3, .ref b)])) rfl rfl rfl rfl rfl rfl rfl (H.rc ha rfl rfl) hrun hd rfl rfl ?_
  refine zW_p 1 rfl ?_
  exact zW_reti rfl rfl rfl ⟨rfl, rfl⟩
theorem Lh_isHeld (H : hRep g w0 σ gh S J) (ha : hat gh S 0 0 a) (hrun : zEnd g d1 92 [.ref a, iv p1] σ (.inl (some (iv (bi v)))) σ1) (hd : d1 < d) (H1 : hRep g w0 σ1 gh1 S1 J) (hJ : J b = some (wLA f)) :
    ∃ σ2 : zS, zEnd g d 91 [.ref a, iv p1, .ref b] σ (.inl (some (iv 0))) σ2 ∧ hRep g w0 σ2 gh1 S1 (zw_up J b (wLA (va_up f 0 (Int64.ofInt (bi v))))) ∧ σ2.2 = σ1.2 := by
  obtain ⟨j1, j2, j3, j4⟩ := H1.jat hJ
  have main : zW g d 91 0 (lv_args 0 [.ref a, iv p1, .ref b]) [] σ (fun o σ' => o = .inl (some (iv 0)) ∧ hRep g w0 σ' gh1 S1 (zw_up J b (wLA (va_up f 0 (Int64.ofInt (bi v))))) ∧ σ'.2 = σ1.2) := by
    refine zW_p 4 rfl ?_
    refine wV rfl rfl rfl rfl rfl rfl rfl (H.rc ha rfl rfl) hrun hd ?_
    cases v with
    | true =>
      refine zW_p 3 rfl ?_
      refine wW_last rfl j1 rfl j2 ?_
      refine zW_p 2 rfl ?_
      exact zW_reti rfl rfl rfl ⟨rfl, H1.keepUp hJ, rfl⟩
    | false =>
      refine zW_p 2 rfl ?_
      refine wW_last rfl j1 rfl j2 ?_
      refine zW_p 2 rfl ?_
      exact zW_reti rfl rfl rfl ⟨rfl, H1.keepUp hJ, rfl⟩
  obtain ⟨o, σ', h1, rfl, h2, h3⟩ := main
  exact ⟨σ', h1, h2, h3⟩
theorem Lh_isHeldX1 (H : hRep g w0 σ gh S J) (ha : hat gh S 0 0 a) (hrun : zEnd g d1 92 [.ref a, iv p1] σ (.inr "java/lang/IndexOutOfBoundsException") σ1) (hd : d1 < d) : zEnd g d 91 [.ref a, iv p1, .ref b] σ (.inl (some (iv 1))) σ1 := by
  refine zEnd_of ?_
  refine zW_p 4 rfl ?_
  refine wVC (z := (20, [(0, .ref a), (1, iv p1), (2, .ref b)])) rfl rfl rfl rfl rfl rfl rfl (H.rc ha rfl rfl) hrun hd rfl rfl ?_
  refine zW_p 1 rfl ?_
  exact zW_reti rfl rfl rfl ⟨rfl, rfl⟩
theorem Lh_setChart (H : hRep g w0 σ gh S J) (ha : hat gh S 0 0 a) (hrun : zEnd g d1 94 [.ref a, iv p1, iv p2, iv p3] σ (.inl (some (iv r))) σ1) (hd : d1 < d) (H1 : hRep g w0 σ1 gh1 S1 J) (hJ : J b = some (wLA f)) (hr : rg r) :
    ∃ σ2 : zS, zEnd g d 93 [.ref a, iv p1, iv p2, iv p3, .ref b] σ (.inl (some (iv 0))) σ2 ∧ hRep g w0 σ2 gh1 S1 (zw_up J b (wLA (va_up f 0 (Int64.ofInt r)))) ∧ σ2.2 = σ1.2 := by
  obtain ⟨j1, j2, j3, j4⟩ := H1.jat hJ
  have main : zW g d 93 0 (lv_args 0 [.ref a, iv p1, iv p2, iv p3, .ref b]) [] σ (fun o σ' => o = .inl (some (iv 0)) ∧ hRep g w0 σ' gh1 S1 (zw_up J b (wLA (va_up f 0 (Int64.ofInt r)))) ∧ σ'.2 = σ1.2) := by
    refine zW_p 6 rfl ?_
    refine wV rfl rfl rfl rfl rfl rfl rfl (H.rc ha rfl rfl) hrun hd ?_
    refine zW_p 1 rfl ?_
    rw [L_of hr]
    refine wW_last rfl j1 rfl j2 ?_
    refine zW_p 2 rfl ?_
    exact zW_reti rfl rfl rfl ⟨rfl, H1.keepUp hJ, rfl⟩
  obtain ⟨o, σ', h1, rfl, h2, h3⟩ := main
  exact ⟨σ', h1, h2, h3⟩
theorem Lh_setChartX1 (H : hRep g w0 σ gh S J) (ha : hat gh S 0 0 a) (hrun : zEnd g d1 94 [.ref a, iv p1, iv p2, iv p3] σ (.inr "java/lang/IndexOutOfBoundsException") σ1) (hd : d1 < d) : zEnd g d 93 [.ref a, iv p1, iv p2, iv p3, .ref b] σ (.inl (some (iv 1))) σ1 := by
  refine zEnd_of ?_
  refine zW_p 6 rfl ?_
  refine wVC (z := (17, [(0, .ref a), (1, iv p1), (2, iv p2), (3, iv p3), (4, .ref b)])) rfl rfl rfl rfl rfl rfl rfl (H.rc ha rfl rfl) hrun hd rfl rfl ?_
  refine zW_p 1 rfl ?_
  exact zW_reti rfl rfl rfl ⟨rfl, rfl⟩
theorem Lh_setChartX2 (H : hRep g w0 σ gh S J) (ha : hat gh S 0 0 a) (hrun : zEnd g d1 94 [.ref a, iv p1, iv p2, iv p3] σ (.inr "java/lang/IllegalArgumentException") σ1) (hd : d1 < d) : zEnd g d 93 [.ref a, iv p1, iv p2, iv p3, .ref b] σ (.inl (some (iv 2))) σ1 := by
  refine zEnd_of ?_
  refine zW_p 6 rfl ?_
  refine wVC (z := (21, [(0, .ref a), (1, iv p1), (2, iv p2), (3, iv p3), (4, .ref b)])) rfl rfl rfl rfl rfl rfl rfl (H.rc ha rfl rfl) hrun hd rfl rfl ?_
  refine zW_p 1 rfl ?_
  exact zW_reti rfl rfl rfl ⟨rfl, rfl⟩
theorem Lh_measure (H : hRep g w0 σ gh S J) (ha : hat gh S 0 0 a) (hrun : zEnd g d1 96 [.ref a, iv p1, iv p2] σ (.inl (some (iv (bi v)))) σ1) (hd : d1 < d) (H1 : hRep g w0 σ1 gh1 S1 J) (hJ : J b = some (wLA f)) :
    ∃ σ2 : zS, zEnd g d 95 [.ref a, iv p1, iv p2, .ref b] σ (.inl (some (iv 0))) σ2 ∧ hRep g w0 σ2 gh1 S1 (zw_up J b (wLA (va_up f 0 (Int64.ofInt (bi v))))) ∧ σ2.2 = σ1.2 := by
  obtain ⟨j1, j2, j3, j4⟩ := H1.jat hJ
  have main : zW g d 95 0 (lv_args 0 [.ref a, iv p1, iv p2, .ref b]) [] σ (fun o σ' => o = .inl (some (iv 0)) ∧ hRep g w0 σ' gh1 S1 (zw_up J b (wLA (va_up f 0 (Int64.ofInt (bi v))))) ∧ σ'.2 = σ1.2) := by
    refine zW_p 5 rfl ?_
    refine wV rfl rfl rfl rfl rfl rfl rfl (H.rc ha rfl rfl) hrun hd ?_
    cases v with
    | true =>
      refine zW_p 3 rfl ?_
      refine wW_last rfl j1 rfl j2 ?_
      refine zW_p 2 rfl ?_
      exact zW_reti rfl rfl rfl ⟨rfl, H1.keepUp hJ, rfl⟩
    | false =>
      refine zW_p 2 rfl ?_
      refine wW_last rfl j1 rfl j2 ?_
      refine zW_p 2 rfl ?_
      exact zW_reti rfl rfl rfl ⟨rfl, H1.keepUp hJ, rfl⟩
  obtain ⟨o, σ', h1, rfl, h2, h3⟩ := main
  exact ⟨σ', h1, h2, h3⟩
theorem Lh_measureX1 (H : hRep g w0 σ gh S J) (ha : hat gh S 0 0 a) (hrun : zEnd g d1 96 [.ref a, iv p1, iv p2] σ (.inr "java/lang/IndexOutOfBoundsException") σ1) (hd : d1 < d) : zEnd g d 95 [.ref a, iv p1, iv p2, .ref b] σ (.inl (some (iv 1))) σ1 := by
  refine zEnd_of ?_
  refine zW_p 5 rfl ?_
  refine wVC (z := (22, [(0, .ref a), (1, iv p1), (2, iv p2), (3, .ref b)])) rfl rfl rfl rfl rfl rfl rfl (H.rc ha rfl rfl) hrun hd rfl rfl ?_
  refine zW_p 1 rfl ?_
  exact zW_reti rfl rfl rfl ⟨rfl, rfl⟩
theorem Lh_measureX2 (H : hRep g w0 σ gh S J) (ha : hat gh S 0 0 a) (hrun : zEnd g d1 96 [.ref a, iv p1, iv p2] σ (.inr "java/lang/IllegalArgumentException") σ1) (hd : d1 < d) : zEnd g d 95 [.ref a, iv p1, iv p2, .ref b] σ (.inl (some (iv 2))) σ1 := by
  refine zEnd_of ?_
  refine zW_p 5 rfl ?_
  refine wVC (z := (26, [(0, .ref a), (1, iv p1), (2, iv p2), (3, .ref b)])) rfl rfl rfl rfl rfl rfl rfl (H.rc ha rfl rfl) hrun hd rfl rfl ?_
  refine zW_p 1 rfl ?_
  exact zW_reti rfl rfl rfl ⟨rfl, rfl⟩
theorem Lh_partOf (H : hRep g w0 σ gh S J) (ha : hat gh S 0 0 a) (hrun : zEnd g d1 99 [.ref a, iv p1] σ (.inl (some (iv r))) σ1) (hd : d1 < d) (H1 : hRep g w0 σ1 gh1 S1 J) (hJ : J b = some (wLA f)) (hr : rg r) :
    ∃ σ2 : zS, zEnd g d 98 [.ref a, iv p1, .ref b] σ (.inl (some (iv 0))) σ2 ∧ hRep g w0 σ2 gh1 S1 (zw_up J b (wLA (va_up f 0 (Int64.ofInt r)))) ∧ σ2.2 = σ1.2 := by
  obtain ⟨j1, j2, j3, j4⟩ := H1.jat hJ
  have main : zW g d 98 0 (lv_args 0 [.ref a, iv p1, .ref b]) [] σ (fun o σ' => o = .inl (some (iv 0)) ∧ hRep g w0 σ' gh1 S1 (zw_up J b (wLA (va_up f 0 (Int64.ofInt r)))) ∧ σ'.2 = σ1.2) := by
    refine zW_p 4 rfl ?_
    refine wV rfl rfl rfl rfl rfl rfl rfl (H.rc ha rfl rfl) hrun hd ?_
    refine zW_p 1 rfl ?_
    rw [L_of hr]
    refine wW_last rfl j1 rfl j2 ?_
    refine zW_p 2 rfl ?_
    exact zW_reti rfl rfl rfl ⟨rfl, H1.keepUp hJ, rfl⟩
  obtain ⟨o, σ', h1, rfl, h2, h3⟩ := main
  exact ⟨σ', h1, h2, h3⟩
theorem Lh_partOfX1 (H : hRep g w0 σ gh S J) (ha : hat gh S 0 0 a) (hrun : zEnd g d1 99 [.ref a, iv p1] σ (.inr "java/lang/IndexOutOfBoundsException") σ1) (hd : d1 < d) : zEnd g d 98 [.ref a, iv p1, .ref b] σ (.inl (some (iv 1))) σ1 := by
  refine zEnd_of ?_
  refine zW_p 4 rfl ?_
  refine wVC (z := (13, [(0, .ref a), (1, iv p1), (2, .ref b)])) rfl rfl rfl rfl rfl rfl rfl (H.rc ha rfl rfl) hrun hd rfl rfl ?_
  refine zW_p 1 rfl ?_
  exact zW_reti rfl rfl rfl ⟨rfl, rfl⟩
theorem Lh_rest (H : hRep g w0 σ gh S J) (ha : hat gh S 0 0 a) (hrun : zEnd g d1 101 [.ref a, iv p1] σ (.inl (some (iv r))) σ1) (hd : d1 < d) (H1 : hRep g w0 σ1 gh1 S1 J) (hJ : J b = some (wLA f)) (hr : rg r) :
    ∃ σ2 : zS, zEnd g d 100 [.ref a, iv p1, .ref b] σ (.inl (some (iv 0))) σ2 ∧ hRep g w0 σ2 gh1 S1 (zw_up J b (wLA (va_up f 0 (Int64.ofInt r)))) ∧ σ2.2 = σ1.2 := by
  obtain ⟨j1, j2, j3, j4⟩ := H1.jat hJ
  have main : zW g d 100 0 (lv_args 0 [.ref a, iv p1, .ref b]) [] σ (fun o σ' => o = .inl (some (iv 0)) ∧ hRep g w0 σ' gh1 S1 (zw_up J b (wLA (va_up f 0 (Int64.ofInt r)))) ∧ σ'.2 = σ1.2) := by
    refine zW_p 4 rfl ?_
    refine wV rfl rfl rfl rfl rfl rfl rfl (H.rc ha rfl rfl) hrun hd ?_
    refine zW_p 1 rfl ?_
    rw [L_of hr]
    refine wW_last rfl j1 rfl j2 ?_
    refine zW_p 2 rfl ?_
    exact zW_reti rfl rfl rfl ⟨rfl, H1.keepUp hJ, rfl⟩
  obtain ⟨o, σ', h1, rfl, h2, h3⟩ := main
  exact ⟨σ', h1, h2, h3⟩
theorem Lh_restX1 (H : hRep g w0 σ gh S J) (ha : hat gh S 0 0 a) (hrun : zEnd g d1 101 [.ref a, iv p1] σ (.inr "java/lang/IndexOutOfBoundsException") σ1) (hd : d1 < d) : zEnd g d 100 [.ref a, iv p1, .ref b] σ (.inl (some (iv 1))) σ1 := by
  refine zEnd_of ?_
  refine zW_p 4 rfl ?_
  refine wVC (z := (13, [(0, .ref a), (1, iv p1), (2, .ref b)])) rfl rfl rfl rfl rfl rfl rfl (H.rc ha rfl rfl) hrun hd rfl rfl ?_
  refine zW_p 1 rfl ?_
  exact zW_reti rfl rfl rfl ⟨rfl, rfl⟩
theorem Lh_reserved (H : hRep g w0 σ gh S J) (ha : hat gh S 0 0 a) (hrun : zEnd g d1 103 [.ref a, iv p1] σ (.inl (some (iv r))) σ1) (hd : d1 < d) (H1 : hRep g w0 σ1 gh1 S1 J) (hJ : J b = some (wLA f)) (hr : rg r) :
    ∃ σ2 : zS, zEnd g d 102 [.ref a, iv p1, .ref b] σ (.inl (some (iv 0))) σ2 ∧ hRep g w0 σ2 gh1 S1 (zw_up J b (wLA (va_up f 0 (Int64.ofInt r)))) ∧ σ2.2 = σ1.2 := by
  obtain ⟨j1, j2, j3, j4⟩ := H1.jat hJ
  have main : zW g d 102 0 (lv_args 0 [.ref a, iv p1, .ref b]) [] σ (fun o σ' => o = .inl (some (iv 0)) ∧ hRep g w0 σ' gh1 S1 (zw_up J b (wLA (va_up f 0 (Int64.ofInt r)))) ∧ σ'.2 = σ1.2) := by
    refine zW_p 4 rfl ?_
    refine wV rfl rfl rfl rfl rfl rfl rfl (H.rc ha rfl rfl) hrun hd ?_
    refine zW_p 1 rfl ?_
    rw [L_of hr]
    refine wW_last rfl j1 rfl j2 ?_
    refine zW_p 2 rfl ?_
    exact zW_reti rfl rfl rfl ⟨rfl, H1.keepUp hJ, rfl⟩
  obtain ⟨o, σ', h1, rfl, h2, h3⟩ := main
  exact ⟨σ', h1, h2, h3⟩
theorem Lh_reservedX1 (H : hRep g w0 σ gh S J) (ha : hat gh S 0 0 a) (hrun : zEnd g d1 103 [.ref a, iv p1] σ (.inr "java/lang/IndexOutOfBoundsException") σ1) (hd : d1 < d) : zEnd g d 102 [.ref a, iv p1, .ref b] σ (.inl (some (iv 1))) σ1 := by
  refine zEnd_of ?_
  refine zW_p 4 rfl ?_
  refine wVC (z := (13, [(0, .ref a), (1, iv p1), (2, .ref b)])) rfl rfl rfl rfl rfl rfl rfl (H.rc ha rfl rfl) hrun hd rfl rfl ?_
  refine zW_p 1 rfl ?_
  exact zW_reti rfl rfl rfl ⟨rfl, rfl⟩
theorem Lh_costOf (H : hRep g w0 σ gh S J) (ha : hat gh S 0 0 a) (hrun : zEnd g d1 105 [.ref a, iv p1] σ (.inl (some (.long (Int64.ofInt r)))) σ1) (hd : d1 < d) (H1 : hRep g w0 σ1 gh1 S1 J) (hJ : J b = some (wLA f)) :
    ∃ σ2 : zS, zEnd g d 104 [.ref a, iv p1, .ref b] σ (.inl (some (iv 0))) σ2 ∧ hRep g w0 σ2 gh1 S1 (zw_up J b (wLA (va_up f 0 (Int64.ofInt r)))) ∧ σ2.2 = σ1.2 := by
  obtain ⟨j1, j2, j3, j4⟩ := H1.jat hJ
  have main : zW g d 104 0 (lv_args 0 [.ref a, iv p1, .ref b]) [] σ (fun o σ' => o = .inl (some (iv 0)) ∧ hRep g w0 σ' gh1 S1 (zw_up J b (wLA (va_up f 0 (Int64.ofInt r)))) ∧ σ'.2 = σ1.2) := by
    refine zW_p 4 rfl ?_
    refine wV rfl rfl rfl rfl rfl rfl rfl (H.rc ha rfl rfl) hrun hd ?_
    refine wW_last rfl j1 rfl j2 ?_
    refine zW_p 2 rfl ?_
    exact zW_reti rfl rfl rfl ⟨rfl, H1.keepUp hJ, rfl⟩
  obtain ⟨o, σ', h1, rfl, h2, h3⟩ := main
  exact ⟨σ', h1, h2, h3⟩
theorem Lh_costOfX1 (H : hRep g w0 σ gh S J) (ha : hat gh S 0 0 a) (hrun : zEnd g d1 105 [.ref a, iv p1] σ (.inr "java/lang/IndexOutOfBoundsException") σ1) (hd : d1 < d) : zEnd g d 104 [.ref a, iv p1, .ref b] σ (.inl (some (iv 1))) σ1 := by
  refine zEnd_of ?_
  refine zW_p 4 rfl ?_
  refine wVC (z := (12, [(0, .ref a), (1, iv p1), (2, .ref b)])) rfl rfl rfl rfl rfl rfl rfl (H.rc ha rfl rfl) hrun hd rfl rfl ?_
  refine zW_p 1 rfl ?_
  exact zW_reti rfl rfl rfl ⟨rfl, rfl⟩
theorem Lh_order (H : hRep g w0 σ gh S J) (ha : hat gh S 0 0 a) (hrun : zEnd g d1 107 [.ref a, iv p1, iv p2, iv p3, iv p4] σ (.inl (some (iv r))) σ1) (hd : d1 < d) (H1 : hRep g w0 σ1 gh1 S1 J) (hJ : J b = some (wLA f)) (hr : rg r) :
    ∃ σ2 : zS, zEnd g d 106 [.ref a, iv p1, iv p2, iv p3, iv p4, .ref b] σ (.inl (some (iv 0))) σ2 ∧ hRep g w0 σ2 gh1 S1 (zw_up J b (wLA (va_up f 0 (Int64.ofInt r)))) ∧ σ2.2 = σ1.2 := by
  obtain ⟨j1, j2, j3, j4⟩ := H1.jat hJ
  have main : zW g d 106 0 (lv_args 0 [.ref a, iv p1, iv p2, iv p3, iv p4, .ref b]) [] σ (fun o σ' => o = .inl (some (iv 0)) ∧ hRep g w0 σ' gh1 S1 (zw_up J b (wLA (va_up f 0 (Int64.ofInt r)))) ∧ σ'.2 = σ1.2) := by
    refine zW_p 7 rfl ?_
    refine wV rfl rfl rfl rfl rfl rfl rfl (H.rc ha rfl rfl) hrun hd ?_
    refine zW_p 1 rfl ?_
    rw [L_of hr]
    refine wW_last rfl j1 rfl j2 ?_
    refine zW_p 2 rfl ?_
    exact zW_reti rfl rfl rfl ⟨rfl, H1.keepUp hJ, rfl⟩
  obtain ⟨o, σ', h1, rfl, h2, h3⟩ := main
  exact ⟨σ', h1, h2, h3⟩
theorem Lh_orderX1 (H : hRep g w0 σ gh S J) (ha : hat gh S 0 0 a) (hrun : zEnd g d1 107 [.ref a, iv p1, iv p2, iv p3, iv p4] σ (.inr "java/lang/IndexOutOfBoundsException") σ1) (hd : d1 < d) : zEnd g d 106 [.ref a, iv p1, iv p2, iv p3, iv p4, .ref b] σ (.inl (some (iv 1))) σ1 := by
  refine zEnd_of ?_
  refine zW_p 7 rfl ?_
  refine wVC (z := (19, [(0, .ref a), (1, iv p1), (2, iv p2), (3, iv p3), (4, iv p4), (5, .ref b)])) rfl rfl rfl rfl rfl rfl rfl (H.rc ha rfl rfl) hrun hd rfl rfl ?_
  refine zW_p 1 rfl ?_
  exact zW_reti rfl rfl rfl ⟨rfl, rfl⟩
theorem Lh_orderX2 (H : hRep g w0 σ gh S J) (ha : hat gh S 0 0 a) (hrun : zEnd g d1 107 [.ref a, iv p1, iv p2, iv p3, iv p4] σ (.inr "java/lang/IllegalArgumentException") σ1) (hd : d1 < d) : zEnd g d 106 [.ref a, iv p1, iv p2, iv p3, iv p4, .ref b] σ (.inl (some (iv 2))) σ1 := by
  refine zEnd_of ?_
  refine zW_p 7 rfl ?_
  refine wVC (z := (23, [(0, .ref a), (1, iv p1), (2, iv p2), (3, iv p3), (4, iv p4), (5, .ref b)])) rfl rfl rfl rfl rfl rfl rfl (H.rc ha rfl rfl) hrun hd rfl rfl ?_
  refine zW_p 1 rfl ?_
  exact zW_reti rfl rfl rfl ⟨rfl, rfl⟩
theorem Lh_orderX3 (H : hRep g w0 σ gh S J) (ha : hat gh S 0 0 a) (hrun : zEnd g d1 107 [.ref a, iv p1, iv p2, iv p3, iv p4] σ (.inr "java/lang/IllegalStateException") σ1) (hd : d1 < d) : zEnd g d 106 [.ref a, iv p1, iv p2, iv p3, iv p4, .ref b] σ (.inl (some (iv 3))) σ1 := by
  refine zEnd_of ?_
  refine zW_p 7 rfl ?_
  refine wVC (z := (27, [(0, .ref a), (1, iv p1), (2, iv p2), (3, iv p3), (4, iv p4), (5, .ref b)])) rfl rfl rfl rfl rfl rfl rfl (H.rc ha rfl rfl) hrun hd rfl rfl ?_
  refine zW_p 1 rfl ?_
  exact zW_reti rfl rfl rfl ⟨rfl, rfl⟩
theorem Lh_promise (H : hRep g w0 σ gh S J) (ha : hat gh S 0 0 a) (hrun : zEnd g d1 110 [.ref a, iv p1] σ (.inl (some (iv (bi v)))) σ1) (hd : d1 < d) (H1 : hRep g w0 σ1 gh1 S1 J) (hJ : J b = some (wLA f)) :
    ∃ σ2 : zS, zEnd g d 109 [.ref a, iv p1, .ref b] σ (.inl (some (iv 0))) σ2 ∧ hRep g w0 σ2 gh1 S1 (zw_up J b (wLA (va_up f 0 (Int64.ofInt (bi v))))) ∧ σ2.2 = σ1.2 := by
  obtain ⟨j1, j2, j3, j4⟩ := H1.jat hJ
  have main : zW g d 109 0 (lv_args 0 [.ref a, iv p1, .ref b]) [] σ (fun o σ' => o = .inl (some (iv 0)) ∧ hRep g w0 σ' gh1 S1 (zw_up J b (wLA (va_up f 0 (Int64.ofInt (bi v))))) ∧ σ'.2 = σ1.2) := by
    refine zW_p 4 rfl ?_
    refine wV rfl rfl rfl rfl rfl rfl rfl (H.rc ha rfl rfl) hrun hd ?_
    cases v with
    | true =>
      refine zW_p 3 rfl ?_
      refine wW_last rfl j1 rfl j2 ?_
      refine zW_p 2 rfl ?_
      exact zW_reti rfl rfl rfl ⟨rfl, H1.keepUp hJ, rfl⟩
    | false =>
      refine zW_p 2 rfl ?_
      refine wW_last rfl j1 rfl j2 ?_
      refine zW_p 2 rfl ?_
      exact zW_reti rfl rfl rfl ⟨rfl, H1.keepUp hJ, rfl⟩
  obtain ⟨o, σ', h1, rfl, h2, h3⟩ := main
  exact ⟨σ', h1, h2, h3⟩
theorem Lh_promiseX1 (H : hRep g w0 σ gh S J) (ha : hat gh S 0 0 a) (hrun : zEnd g d1 110 [.ref a, iv p1] σ (.inr "java/lang/IndexOutOfBoundsException") σ1) (hd : d1 < d) : zEnd g d 109 [.ref a, iv p1, .ref b] σ (.inl (some (iv 1))) σ1 := by
  refine zEnd_of ?_
  refine zW_p 4 rfl ?_
  refine wVC (z := (20, [(0, .ref a), (1, iv p1), (2, .ref b)])) rfl rfl rfl rfl rfl rfl rfl (H.rc ha rfl rfl) hrun hd rfl rfl ?_
  refine zW_p 1 rfl ?_
  exact zW_reti rfl rfl rfl ⟨rfl, rfl⟩
theorem Lh_promiseX2 (H : hRep g w0 σ gh S J) (ha : hat gh S 0 0 a) (hrun : zEnd g d1 110 [.ref a, iv p1] σ (.inr "java/lang/UnsupportedOperationException") σ1) (hd : d1 < d) : zEnd g d 109 [.ref a, iv p1, .ref b] σ (.inl (some (iv 2))) σ1 := by
  refine zEnd_of ?_
  refine zW_p 4 rfl ?_
  refine wVC (z := (23, [(0, .ref a), (1, iv p1), (2, .ref b)])) rfl rfl rfl rfl rfl rfl rfl (H.rc ha rfl rfl) hrun hd rfl rfl ?_
  refine zW_p 1 rfl ?_
  exact zW_reti rfl rfl rfl ⟨rfl, rfl⟩
theorem Lh_withdraw (H : hRep g w0 σ gh S J) (ha : hat gh S 0 0 a) (hrun : zEnd g d1 120 [.ref a, iv p1] σ (.inl (some (iv r))) σ1) (hd : d1 < d) (H1 : hRep g w0 σ1 gh1 S1 J) (hJ : J b = some (wLA f)) (hr : rg r) :
    ∃ σ2 : zS, zEnd g d 119 [.ref a, iv p1, .ref b] σ (.inl (some (iv 0))) σ2 ∧ hRep g w0 σ2 gh1 S1 (zw_up J b (wLA (va_up f 0 (Int64.ofInt r)))) ∧ σ2.2 = σ1.2 := by
  obtain ⟨j1, j2, j3, j4⟩ := H1.jat hJ
  have main : zW g d 119 0 (lv_args 0 [.ref a, iv p1, .ref b]) [] σ (fun o σ' => o = .inl (some (iv 0)) ∧ hRep g w0 σ' gh1 S1 (zw_up J b (wLA (va_up f 0 (Int64.ofInt r)))) ∧ σ'.2 = σ1.2) := by
    refine zW_p 4 rfl ?_
    refine wV rfl rfl rfl rfl rfl rfl rfl (H.rc ha rfl rfl) hrun hd ?_
    refine zW_p 1 rfl ?_
    rw [L_of hr]
    refine wW_last rfl j1 rfl j2 ?_
    refine zW_p 2 rfl ?_
    exact zW_reti rfl rfl rfl ⟨rfl, H1.keepUp hJ, rfl⟩
  obtain ⟨o, σ', h1, rfl, h2, h3⟩ := main
  exact ⟨σ', h1, h2, h3⟩
theorem Lh_withdrawX1 (H : hRep g w0 σ gh S J) (ha : hat gh S 0 0 a) (hrun : zEnd g d1 120 [.ref a, iv p1] σ (.inr "java/lang/IndexOutOfBoundsException") σ1) (hd : d1 < d) : zEnd g d 119 [.ref a, iv p1, .ref b] σ (.inl (some (iv 1))) σ1 := by
  refine zEnd_of ?_
  refine zW_p 4 rfl ?_
  refine wVC (z := (13, [(0, .ref a), (1, iv p1), (2, .ref b)])) rfl rfl rfl rfl rfl rfl rfl (H.rc ha rfl rfl) hrun hd rfl rfl ?_
  refine zW_p 1 rfl ?_
  exact zW_reti rfl rfl rfl ⟨rfl, rfl⟩
theorem Lh_withdrawX2 (H : hRep g w0 σ gh S J) (ha : hat gh S 0 0 a) (hrun : zEnd g d1 120 [.ref a, iv p1] σ (.inr "java/lang/UnsupportedOperationException") σ1) (hd : d1 < d) : zEnd g d 119 [.ref a, iv p1, .ref b] σ (.inl (some (iv 2))) σ1 := by
  refine zEnd_of ?_
  refine zW_p 4 rfl ?_
  refine wVC (z := (16, [(0, .ref a), (1, iv p1), (2, .ref b)])) rfl rfl rfl rfl rfl rfl rfl (H.rc ha rfl rfl) hrun hd rfl rfl ?_
  refine zW_p 1 rfl ?_
  exact zW_reti rfl rfl rfl ⟨rfl, rfl⟩
theorem Lh_release (H : hRep g w0 σ gh S J) (ha : hat gh S 0 0 a) (hrun : zEnd g d1 122 [.ref a, iv p1] σ (.inl (some (iv (bi v)))) σ1) (hd : d1 < d) (H1 : hRep g w0 σ1 gh1 S1 J) (hJ : J b = some (wLA f)) :
    ∃ σ2 : zS, zEnd g d 121 [.ref a, iv p1, .ref b] σ (.inl (some (iv 0))) σ2 ∧ hRep g w0 σ2 gh1 S1 (zw_up J b (wLA (va_up f 0 (Int64.ofInt (bi v))))) ∧ σ2.2 = σ1.2 := by
  obtain ⟨j1, j2, j3, j4⟩ := H1.jat hJ
  have main : zW g d 121 0 (lv_args 0 [.ref a, iv p1, .ref b]) [] σ (fun o σ' => o = .inl (some (iv 0)) ∧ hRep g w0 σ' gh1 S1 (zw_up J b (wLA (va_up f 0 (Int64.ofInt (bi v))))) ∧ σ'.2 = σ1.2) := by
    refine zW_p 4 rfl ?_
    refine wV rfl rfl rfl rfl rfl rfl rfl (H.rc ha rfl rfl) hrun hd ?_
    cases v with
    | true =>
      refine zW_p 3 rfl ?_
      refine wW_last rfl j1 rfl j2 ?_
      refine zW_p 2 rfl ?_
      exact zW_reti rfl rfl rfl ⟨rfl, H1.keepUp hJ, rfl⟩
    | false =>
      refine zW_p 2 rfl ?_
      refine wW_last rfl j1 rfl j2 ?_
      refine zW_p 2 rfl ?_
      exact zW_reti rfl rfl rfl ⟨rfl, H1.keepUp hJ, rfl⟩
  obtain ⟨o, σ', h1, rfl, h2, h3⟩ := main
  exact ⟨σ', h1, h2, h3⟩
theorem Lh_releaseX1 (H : hRep g w0 σ gh S J) (ha : hat gh S 0 0 a) (hrun : zEnd g d1 122 [.ref a, iv p1] σ (.inr "java/lang/IndexOutOfBoundsException") σ1) (hd : d1 < d) : zEnd g d 121 [.ref a, iv p1, .ref b] σ (.inl (some (iv 1))) σ1 := by
  refine zEnd_of ?_
  refine zW_p 4 rfl ?_
  refine wVC (z := (20, [(0, .ref a), (1, iv p1), (2, .ref b)])) rfl rfl rfl rfl rfl rfl rfl (H.rc ha rfl rfl) hrun hd rfl rfl ?_
  refine zW_p 1 rfl ?_
  exact zW_reti rfl rfl rfl ⟨rfl, rfl⟩
theorem Lh_releaseX2 (H : hRep g w0 σ gh S J) (ha : hat gh S 0 0 a) (hrun : zEnd g d1 122 [.ref a, iv p1] σ (.inr "java/lang/UnsupportedOperationException") σ1) (hd : d1 < d) : zEnd g d 121 [.ref a, iv p1, .ref b] σ (.inl (some (iv 2))) σ1 := by
  refine zEnd_of ?_
  refine zW_p 4 rfl ?_
  refine wVC (z := (23, [(0, .ref a), (1, iv p1), (2, .ref b)])) rfl rfl rfl rfl rfl rfl rfl (H.rc ha rfl rfl) hrun hd rfl rfl ?_
  refine zW_p 1 rfl ?_
  exact zW_reti rfl rfl rfl ⟨rfl, rfl⟩
theorem Lh_scrap (H : hRep g w0 σ gh S J) (ha : hat gh S 0 0 a) (hrun : zEnd g d1 156 [.ref a, iv p1, iv p2] σ (.inl (some (iv r))) σ1) (hd : d1 < d) (H1 : hRep g w0 σ1 gh1 S1 J) (hJ : J b = some (wLA f)) (hr : rg r) :
    ∃ σ2 : zS, zEnd g d 155 [.ref a, iv p1, iv p2, .ref b] σ (.inl (some (iv 0))) σ2 ∧ hRep g w0 σ2 gh1 S1 (zw_up J b (wLA (va_up f 0 (Int64.ofInt r)))) ∧ σ2.2 = σ1.2 := by
  obtain ⟨j1, j2, j3, j4⟩ := H1.jat hJ
  have main : zW g d 155 0 (lv_args 0 [.ref a, iv p1, iv p2, .ref b]) [] σ (fun o σ' => o = .inl (some (iv 0)) ∧ hRep g w0 σ' gh1 S1 (zw_up J b (wLA (va_up f 0 (Int64.ofInt r)))) ∧ σ'.2 = σ1.2) := by
    refine zW_p 5 rfl ?_
    refine wV rfl rfl rfl rfl rfl rfl rfl (H.rc ha rfl rfl) hrun hd ?_
    refine zW_p 1 rfl ?_
    rw [L_of hr]
    refine wW_last rfl j1 rfl j2 ?_
    refine zW_p 2 rfl ?_
    exact zW_reti rfl rfl rfl ⟨rfl, H1.keepUp hJ, rfl⟩
  obtain ⟨o, σ', h1, rfl, h2, h3⟩ := main
  exact ⟨σ', h1, h2, h3⟩
theorem Lh_scrapX1 (H : hRep g w0 σ gh S J) (ha : hat gh S 0 0 a) (hrun : zEnd g d1 156 [.ref a, iv p1, iv p2] σ (.inr "java/lang/IndexOutOfBoundsException") σ1) (hd : d1 < d) : zEnd g d 155 [.ref a, iv p1, iv p2, .ref b] σ (.inl (some (iv 1))) σ1 := by
  refine zEnd_of ?_
  refine zW_p 5 rfl ?_
  refine wVC (z := (15, [(0, .ref a), (1, iv p1), (2, iv p2), (3, .ref b)])) rfl rfl rfl rfl rfl rfl rfl (H.rc ha rfl rfl) hrun hd rfl rfl ?_
  refine zW_p 1 rfl ?_
  exact zW_reti rfl rfl rfl ⟨rfl, rfl⟩
theorem Lh_scrapX2 (H : hRep g w0 σ gh S J) (ha : hat gh S 0 0 a) (hrun : zEnd g d1 156 [.ref a, iv p1, iv p2] σ (.inr "java/lang/UnsupportedOperationException") σ1) (hd : d1 < d) : zEnd g d 155 [.ref a, iv p1, iv p2, .ref b] σ (.inl (some (iv 2))) σ1 := by
  refine zEnd_of ?_
  refine zW_p 5 rfl ?_
  refine wVC (z := (19, [(0, .ref a), (1, iv p1), (2, iv p2), (3, .ref b)])) rfl rfl rfl rfl rfl rfl rfl (H.rc ha rfl rfl) hrun hd rfl rfl ?_
  refine zW_p 1 rfl ?_
  exact zW_reti rfl rfl rfl ⟨rfl, rfl⟩
theorem Lh_scrapX3 (H : hRep g w0 σ gh S J) (ha : hat gh S 0 0 a) (hrun : zEnd g d1 156 [.ref a, iv p1, iv p2] σ (.inr "java/lang/IllegalArgumentException") σ1) (hd : d1 < d) : zEnd g d 155 [.ref a, iv p1, iv p2, .ref b] σ (.inl (some (iv 3))) σ1 := by
  refine zEnd_of ?_
  refine zW_p 5 rfl ?_
  refine wVC (z := (23, [(0, .ref a), (1, iv p1), (2, iv p2), (3, .ref b)])) rfl rfl rfl rfl rfl rfl rfl (H.rc ha rfl rfl) hrun hd rfl rfl ?_
  refine zW_p 1 rfl ?_
  exact zW_reti rfl rfl rfl ⟨rfl, rfl⟩
theorem Lh_advance (H : hRep g w0 σ gh S J) (ha : hat gh S 0 0 a) (hrun : zEnd g d1 158 [.ref a, iv p1] σ (.inl (some (iv r))) σ1) (hd : d1 < d) (H1 : hRep g w0 σ1 gh1 S1 J) (hJ : J b = some (wLA f)) (hr : rg r) :
    ∃ σ2 : zS, zEnd g d 157 [.ref a, iv p1, .ref b] σ (.inl (some (iv 0))) σ2 ∧ hRep g w0 σ2 gh1 S1 (zw_up J b (wLA (va_up f 0 (Int64.ofInt r)))) ∧ σ2.2 = σ1.2 := by
  obtain ⟨j1, j2, j3, j4⟩ := H1.jat hJ
  have main : zW g d 157 0 (lv_args 0 [.ref a, iv p1, .ref b]) [] σ (fun o σ' => o = .inl (some (iv 0)) ∧ hRep g w0 σ' gh1 S1 (zw_up J b (wLA (va_up f 0 (Int64.ofInt r)))) ∧ σ'.2 = σ1.2) := by
    refine zW_p 4 rfl ?_
    refine wV rfl rfl rfl rfl rfl rfl rfl (H.rc ha rfl rfl) hrun hd ?_
    refine zW_p 1 rfl ?_
    rw [L_of hr]
    refine wW_last rfl j1 rfl j2 ?_
    refine zW_p 2 rfl ?_
    exact zW_reti rfl rfl rfl ⟨rfl, H1.keepUp hJ, rfl⟩
  obtain ⟨o, σ', h1, rfl, h2, h3⟩ := main
  exact ⟨σ', h1, h2, h3⟩
theorem Lh_advanceX1 (H : hRep g w0 σ gh S J) (ha : hat gh S 0 0 a) (hrun : zEnd g d1 158 [.ref a, iv p1] σ (.inr "java/lang/IllegalArgumentException") σ1) (hd : d1 < d) : zEnd g d 157 [.ref a, iv p1, .ref b] σ (.inl (some (iv 1))) σ1 := by
  refine zEnd_of ?_
  refine zW_p 4 rfl ?_
  refine wVC (z := (13, [(0, .ref a), (1, iv p1), (2, .ref b)])) rfl rfl rfl rfl rfl rfl rfl (H.rc ha rfl rfl) hrun hd rfl rfl ?_
  refine zW_p 1 rfl ?_
  exact zW_reti rfl rfl rfl ⟨rfl, rfl⟩
theorem Lh_advanceX2 (H : hRep g w0 σ gh S J) (ha : hat gh S 0 0 a) (hrun : zEnd g d1 158 [.ref a, iv p1] σ (.inr "java/lang/IllegalStateException") σ1) (hd : d1 < d) : zEnd g d 157 [.ref a, iv p1, .ref b] σ (.inl (some (iv 2))) σ1 := by
  refine zEnd_of ?_
  refine zW_p 4 rfl ?_
  refine wVC (z := (16, [(0, .ref a), (1, iv p1), (2, .ref b)])) rfl rfl rfl rfl rfl rfl rfl (H.rc ha rfl rfl) hrun hd rfl rfl ?_
  refine zW_p 1 rfl ?_
  exact zW_reti rfl rfl rfl ⟨rfl, rfl⟩
theorem Lh_deliver (H : hRep g w0 σ gh S J) (ha : hat gh S 0 0 a) (hrun : zEnd g d1 162 [.ref a, iv p1] σ (.inl (some (iv (bi v)))) σ1) (hd : d1 < d) (H1 : hRep g w0 σ1 gh1 S1 J) (hJ : J b = some (wLA f)) :
    ∃ σ2 : zS, zEnd g d 161 [.ref a, iv p1, .ref b] σ (.inl (some (iv 0))) σ2 ∧ hRep g w0 σ2 gh1 S1 (zw_up J b (wLA (va_up f 0 (Int64.ofInt (bi v))))) ∧ σ2.2 = σ1.2 := by
  obtain ⟨j1, j2, j3, j4⟩ := H1.jat hJ
  have main : zW g d 161 0 (lv_args 0 [.ref a, iv p1, .ref b]) [] σ (fun o σ' => o = .inl (some (iv 0)) ∧ hRep g w0 σ' gh1 S1 (zw_up J b (wLA (va_up f 0 (Int64.ofInt (bi v))))) ∧ σ'.2 = σ1.2) := by
    refine zW_p 4 rfl ?_
    refine wV rfl rfl rfl rfl rfl rfl rfl (H.rc ha rfl rfl) hrun hd ?_
    cases v with
    | true =>
      refine zW_p 3 rfl ?_
      refine wW_last rfl j1 rfl j2 ?_
      refine zW_p 2 rfl ?_
      exact zW_reti rfl rfl rfl ⟨rfl, H1.keepUp hJ, rfl⟩
    | false =>
      refine zW_p 2 rfl ?_
      refine wW_last rfl j1 rfl j2 ?_
      refine zW_p 2 rfl ?_
      exact zW_reti rfl rfl rfl ⟨rfl, H1.keepUp hJ, rfl⟩
  obtain ⟨o, σ', h1, rfl, h2, h3⟩ := main
  exact ⟨σ', h1, h2, h3⟩
theorem Lh_deliverX1 (H : hRep g w0 σ gh S J) (ha : hat gh S 0 0 a) (hrun : zEnd g d1 162 [.ref a, iv p1] σ (.inr "java/lang/IndexOutOfBoundsException") σ1) (hd : d1 < d) : zEnd g d 161 [.ref a, iv p1, .ref b] σ (.inl (some (iv 1))) σ1 := by
  refine zEnd_of ?_
  refine zW_p 4 rfl ?_
  refine wVC (z := (20, [(0, .ref a), (1, iv p1), (2, .ref b)])) rfl rfl rfl rfl rfl rfl rfl (H.rc ha rfl rfl) hrun hd rfl rfl ?_
  refine zW_p 1 rfl ?_
  exact zW_reti rfl rfl rfl ⟨rfl, rfl⟩
theorem Lh_deliverX2 (H : hRep g w0 σ gh S J) (ha : hat gh S 0 0 a) (hrun : zEnd g d1 162 [.ref a, iv p1] σ (.inr "java/lang/UnsupportedOperationException") σ1) (hd : d1 < d) : zEnd g d 161 [.ref a, iv p1, .ref b] σ (.inl (some (iv 2))) σ1 := by
  refine zEnd_of ?_
  refine zW_p 4 rfl ?_
  refine wVC (z := (23, [(0, .ref a), (1, iv p1), (2, .ref b)])) rfl rfl rfl rfl rfl rfl rfl (H.rc ha rfl rfl) hrun hd rfl rfl ?_
  refine zW_p 1 rfl ?_
  exact zW_reti rfl rfl rfl ⟨rfl, rfl⟩
theorem Lh_stateOf (H : hRep g w0 σ gh S J) (ha : hat gh S 0 0 a) (hrun : zEnd g d1 168 [.ref a, iv p1] σ (.inl (some (iv r))) σ1) (hd : d1 < d) (H1 : hRep g w0 σ1 gh1 S1 J) (hJ : J b = some (wLA f)) (hr : rg r) :
    ∃ σ2 : zS, zEnd g d 167 [.ref a, iv p1, .ref b] σ (.inl (some (iv 0))) σ2 ∧ hRep g w0 σ2 gh1 S1 (zw_up J b (wLA (va_up f 0 (Int64.ofInt r)))) ∧ σ2.2 = σ1.2 := by
  obtain ⟨j1, j2, j3, j4⟩ := H1.jat hJ
  have main : zW g d 167 0 (lv_args 0 [.ref a, iv p1, .ref b]) [] σ (fun o σ' => o = .inl (some (iv 0)) ∧ hRep g w0 σ' gh1 S1 (zw_up J b (wLA (va_up f 0 (Int64.ofInt r)))) ∧ σ'.2 = σ1.2) := by
    refine zW_p 4 rfl ?_
    refine wV rfl rfl rfl rfl rfl rfl rfl (H.rc ha rfl rfl) hrun hd ?_
    refine zW_p 1 rfl ?_
    rw [L_of hr]
    refine wW_last rfl j1 rfl j2 ?_
    refine zW_p 2 rfl ?_
    exact zW_reti rfl rfl rfl ⟨rfl, H1.keepUp hJ, rfl⟩
  obtain ⟨o, σ', h1, rfl, h2, h3⟩ := main
  exact ⟨σ', h1, h2, h3⟩
theorem Lh_stateOfX1 (H : hRep g w0 σ gh S J) (ha : hat gh S 0 0 a) (hrun : zEnd g d1 168 [.ref a, iv p1] σ (.inr "java/lang/IndexOutOfBoundsException") σ1) (hd : d1 < d) : zEnd g d 167 [.ref a, iv p1, .ref b] σ (.inl (some (iv 1))) σ1 := by
  refine zEnd_of ?_
  refine zW_p 4 rfl ?_
  refine wVC (z := (13, [(0, .ref a), (1, iv p1), (2, .ref b)])) rfl rfl rfl rfl rfl rfl rfl (H.rc ha rfl rfl) hrun hd rfl rfl ?_
  refine zW_p 1 rfl ?_
  exact zW_reti rfl rfl rfl ⟨rfl, rfl⟩
theorem Lh_lotOf (H : hRep g w0 σ gh S J) (ha : hat gh S 0 0 a) (hrun : zEnd g d1 170 [.ref a, iv p1] σ (.inl (some (iv r))) σ1) (hd : d1 < d) (H1 : hRep g w0 σ1 gh1 S1 J) (hJ : J b = some (wLA f)) (hr : rg r) :
    ∃ σ2 : zS, zEnd g d 169 [.ref a, iv p1, .ref b] σ (.inl (some (iv 0))) σ2 ∧ hRep g w0 σ2 gh1 S1 (zw_up J b (wLA (va_up f 0 (Int64.ofInt r)))) ∧ σ2.2 = σ1.2 := by
  obtain ⟨j1, j2, j3, j4⟩ := H1.jat hJ
  have main : zW g d 169 0 (lv_args 0 [.ref a, iv p1, .ref b]) [] σ (fun o σ' => o = .inl (some (iv 0)) ∧ hRep g w0 σ' gh1 S1 (zw_up J b (wLA (va_up f 0 (Int64.ofInt r)))) ∧ σ'.2 = σ1.2) := by
    refine zW_p 4 rfl ?_
    refine wV rfl rfl rfl rfl rfl rfl rfl (H.rc ha rfl rfl) hrun hd ?_
    refine zW_p 1 rfl ?_
    rw [L_of hr]
    refine wW_last rfl j1 rfl j2 ?_
    refine zW_p 2 rfl ?_
    exact zW_reti rfl rfl rfl ⟨rfl, H1.keepUp hJ, rfl⟩
  obtain ⟨o, σ', h1, rfl, h2, h3⟩ := main
  exact ⟨σ', h1, h2, h3⟩
theorem Lh_lotOfX1 (H : hRep g w0 σ gh S J) (ha : hat gh S 0 0 a) (hrun : zEnd g d1 170 [.ref a, iv p1] σ (.inr "java/lang/IndexOutOfBoundsException") σ1) (hd : d1 < d) : zEnd g d 169 [.ref a, iv p1, .ref b] σ (.inl (some (iv 1))) σ1 := by
  refine zEnd_of ?_
  refine zW_p 4 rfl ?_
  refine wVC (z := (13, [(0, .ref a), (1, iv p1), (2, .ref b)])) rfl rfl rfl rfl rfl rfl rfl (H.rc ha rfl rfl) hrun hd rfl rfl ?_
  refine zW_p 1 rfl ?_
  exact zW_reti rfl rfl rfl ⟨rfl, rfl⟩
theorem Lh_lotOfX2 (H : hRep g w0 σ gh S J) (ha : hat gh S 0 0 a) (hrun : zEnd g d1 170 [.ref a, iv p1] σ (.inr "java/util/NoSuchElementException") σ1) (hd : d1 < d) : zEnd g d 169 [.ref a, iv p1, .ref b] σ (.inl (some (iv 2))) σ1 := by
  refine zEnd_of ?_
  refine zW_p 4 rfl ?_
  refine wVC (z := (16, [(0, .ref a), (1, iv p1), (2, .ref b)])) rfl rfl rfl rfl rfl rfl rfl (H.rc ha rfl rfl) hrun hd rfl rfl ?_
  refine zW_p 1 rfl ?_
  exact zW_reti rfl rfl rfl ⟨rfl, rfl⟩
theorem Lh_finishedAt (H : hRep g w0 σ gh S J) (ha : hat gh S 0 0 a) (hrun : zEnd g d1 173 [.ref a, iv p1] σ (.inl (some (iv r))) σ1) (hd : d1 < d) (H1 : hRep g w0 σ1 gh1 S1 J) (hJ : J b = some (wLA f)) (hr : rg r) :
    ∃ σ2 : zS, zEnd g d 172 [.ref a, iv p1, .ref b] σ (.inl (some (iv 0))) σ2 ∧ hRep g w0 σ2 gh1 S1 (zw_up J b (wLA (va_up f 0 (Int64.ofInt r)))) ∧ σ2.2 = σ1.2 := by
  obtain ⟨j1, j2, j3, j4⟩ := H1.jat hJ
  have main : zW g d 172 0 (lv_args 0 [.ref a, iv p1, .ref b]) [] σ (fun o σ' => o = .inl (some (iv 0)) ∧ hRep g w0 σ' gh1 S1 (zw_up J b (wLA (va_up f 0 (Int64.ofInt r)))) ∧ σ'.2 = σ1.2) := by
    refine zW_p 4 rfl ?_
    refine wV rfl rfl rfl rfl rfl rfl rfl (H.rc ha rfl rfl) hrun hd ?_
    refine zW_p 1 rfl ?_
    rw [L_of hr]
    refine wW_last rfl j1 rfl j2 ?_
    refine zW_p 2 rfl ?_
    exact zW_reti rfl rfl rfl ⟨rfl, H1.keepUp hJ, rfl⟩
  obtain ⟨o, σ', h1, rfl, h2, h3⟩ := main
  exact ⟨σ', h1, h2, h3⟩
theorem Lh_finishedAtX1 (H : hRep g w0 σ gh S J) (ha : hat gh S 0 0 a) (hrun : zEnd g d1 173 [.ref a, iv p1] σ (.inr "java/lang/IndexOutOfBoundsException") σ1) (hd : d1 < d) : zEnd g d 172 [.ref a, iv p1, .ref b] σ (.inl (some (iv 1))) σ1 := by
  refine zEnd_of ?_
  refine zW_p 4 rfl ?_
  refine wVC (z := (13, [(0, .ref a), (1, iv p1), (2, .ref b)])) rfl rfl rfl rfl rfl rfl rfl (H.rc ha rfl rfl) hrun hd rfl rfl ?_
  refine zW_p 1 rfl ?_
  exact zW_reti rfl rfl rfl ⟨rfl, rfl⟩
theorem Lh_finishedAtX2 (H : hRep g w0 σ gh S J) (ha : hat gh S 0 0 a) (hrun : zEnd g d1 173 [.ref a, iv p1] σ (.inr "java/util/NoSuchElementException") σ1) (hd : d1 < d) : zEnd g d 172 [.ref a, iv p1, .ref b] σ (.inl (some (iv 2))) σ1 := by
  refine zEnd_of ?_
  refine zW_p 4 rfl ?_
  refine wVC (z := (16, [(0, .ref a), (1, iv p1), (2, .ref b)])) rfl rfl rfl rfl rfl rfl rfl (H.rc ha rfl rfl) hrun hd rfl rfl ?_
  refine zW_p 1 rfl ?_
  exact zW_reti rfl rfl rfl ⟨rfl, rfl⟩
theorem Lh_machineIs (H : hRep g w0 σ gh S J) (ha : hat gh S 0 0 a) (hrun : zEnd g d1 175 [.ref a, iv p1] σ (.inl (some (iv r))) σ1) (hd : d1 < d) (H1 : hRep g w0 σ1 gh1 S1 J) (hJ : J b = some (wLA f)) (hr : rg r) :
    ∃ σ2 : zS, zEnd g d 174 [.ref a, iv p1, .ref b] σ (.inl (some (iv 0))) σ2 ∧ hRep g w0 σ2 gh1 S1 (zw_up J b (wLA (va_up f 0 (Int64.ofInt r)))) ∧ σ2.2 = σ1.2 := by
  obtain ⟨j1, j2, j3, j4⟩ := H1.jat hJ
  have main : zW g d 174 0 (lv_args 0 [.ref a, iv p1, .ref b]) [] σ (fun o σ' => o = .inl (some (iv 0)) ∧ hRep g w0 σ' gh1 S1 (zw_up J b (wLA (va_up f 0 (Int64.ofInt r)))) ∧ σ'.2 = σ1.2) := by
    refine zW_p 4 rfl ?_
    refine wV rfl rfl rfl rfl rfl rfl rfl (H.rc ha rfl rfl) hrun hd ?_
    refine zW_p 1 rfl ?_
    rw [L_of hr]
    refine wW_last rfl j1 rfl j2 ?_
    refine zW_p 2 rfl ?_
    exact zW_reti rfl rfl rfl ⟨rfl, H1.keepUp hJ, rfl⟩
  obtain ⟨o, σ', h1, rfl, h2, h3⟩ := main
  exact ⟨σ', h1, h2, h3⟩
theorem Lh_machineIsX1 (H : hRep g w0 σ gh S J) (ha : hat gh S 0 0 a) (hrun : zEnd g d1 175 [.ref a, iv p1] σ (.inr "java/lang/IndexOutOfBoundsException") σ1) (hd : d1 < d) : zEnd g d 174 [.ref a, iv p1, .ref b] σ (.inl (some (iv 1))) σ1 := by
  refine zEnd_of ?_
  refine zW_p 4 rfl ?_
  refine wVC (z := (13, [(0, .ref a), (1, iv p1), (2, .ref b)])) rfl rfl rfl rfl rfl rfl rfl (H.rc ha rfl rfl) hrun hd rfl rfl ?_
  refine zW_p 1 rfl ?_
  exact zW_reti rfl rfl rfl ⟨rfl, rfl⟩
theorem Lh_wear (H : hRep g w0 σ gh S J) (ha : hat gh S 0 0 a) (hrun : zEnd g d1 177 [.ref a, iv p1] σ (.inl (some (iv r))) σ1) (hd : d1 < d) (H1 : hRep g w0 σ1 gh1 S1 J) (hJ : J b = some (wLA f)) (hr : rg r) :
    ∃ σ2 : zS, zEnd g d 176 [.ref a, iv p1, .ref b] σ (.inl (some (iv 0))) σ2 ∧ hRep g w0 σ2 gh1 S1 (zw_up J b (wLA (va_up f 0 (Int64.ofInt r)))) ∧ σ2.2 = σ1.2 := by
  obtain ⟨j1, j2, j3, j4⟩ := H1.jat hJ
  have main : zW g d 176 0 (lv_args 0 [.ref a, iv p1, .ref b]) [] σ (fun o σ' => o = .inl (some (iv 0)) ∧ hRep g w0 σ' gh1 S1 (zw_up J b (wLA (va_up f 0 (Int64.ofInt r)))) ∧ σ'.2 = σ1.2) := by
    refine zW_p 4 rfl ?_
    refine wV rfl rfl rfl rfl rfl rfl rfl (H.rc ha rfl rfl) hrun hd ?_
    refine zW_p 1 rfl ?_
    rw [L_of hr]
    refine wW_last rfl j1 rfl j2 ?_
    refine zW_p 2 rfl ?_
    exact zW_reti rfl rfl rfl ⟨rfl, H1.keepUp hJ, rfl⟩
  obtain ⟨o, σ', h1, rfl, h2, h3⟩ := main
  exact ⟨σ', h1, h2, h3⟩
theorem Lh_wearX1 (H : hRep g w0 σ gh S J) (ha : hat gh S 0 0 a) (hrun : zEnd g d1 177 [.ref a, iv p1] σ (.inr "java/lang/IndexOutOfBoundsException") σ1) (hd : d1 < d) : zEnd g d 176 [.ref a, iv p1, .ref b] σ (.inl (some (iv 1))) σ1 := by
  refine zEnd_of ?_
  refine zW_p 4 rfl ?_
  refine wVC (z := (13, [(0, .ref a), (1, iv p1), (2, .ref b)])) rfl rfl rfl rfl rfl rfl rfl (H.rc ha rfl rfl) hrun hd rfl rfl ?_
  refine zW_p 1 rfl ?_
  exact zW_reti rfl rfl rfl ⟨rfl, rfl⟩
theorem Lh_waiting (H : hRep g w0 σ gh S J) (ha : hat gh S 0 0 a) (hrun : zEnd g d1 179 [.ref a, iv p1] σ (.inl (some (iv r))) σ1) (hd : d1 < d) (H1 : hRep g w0 σ1 gh1 S1 J) (hJ : J b = some (wLA f)) (hr : rg r) :
    ∃ σ2 : zS, zEnd g d 178 [.ref a, iv p1, .ref b] σ (.inl (some (iv 0))) σ2 ∧ hRep g w0 σ2 gh1 S1 (zw_up J b (wLA (va_up f 0 (Int64.ofInt r)))) ∧ σ2.2 = σ1.2 := by
  obtain ⟨j1, j2, j3, j4⟩ := H1.jat hJ
  have main : zW g d 178 0 (lv_args 0 [.ref a, iv p1, .ref b]) [] σ (fun o σ' => o = .inl (some (iv 0)) ∧ hRep g w0 σ' gh1 S1 (zw_up J b (wLA (va_up f 0 (Int64.ofInt r)))) ∧ σ'.2 = σ1.2) := by
    refine zW_p 4 rfl ?_
    refine wV rfl rfl rfl rfl rfl rfl rfl (H.rc ha rfl rfl) hrun hd ?_
    refine zW_p 1 rfl ?_
    rw [L_of hr]
    refine wW_last rfl j1 rfl j2 ?_
    refine zW_p 2 rfl ?_
    exact zW_reti rfl rfl rfl ⟨rfl, H1.keepUp hJ, rfl⟩
  obtain ⟨o, σ', h1, rfl, h2, h3⟩ := main
  exact ⟨σ', h1, h2, h3⟩
theorem Lh_waitingX1 (H : hRep g w0 σ gh S J) (ha : hat gh S 0 0 a) (hrun : zEnd g d1 179 [.ref a, iv p1] σ (.inr "java/lang/IndexOutOfBoundsException") σ1) (hd : d1 < d) : zEnd g d 178 [.ref a, iv p1, .ref b] σ (.inl (some (iv 1))) σ1 := by
  refine zEnd_of ?_
  refine zW_p 4 rfl ?_
  refine wVC (z := (13, [(0, .ref a), (1, iv p1), (2, .ref b)])) rfl rfl rfl rfl rfl rfl rfl (H.rc ha rfl rfl) hrun hd rfl rfl ?_
  refine zW_p 1 rfl ?_
  exact zW_reti rfl rfl rfl ⟨rfl, rfl⟩
theorem Lh_isIn (H : hRep g w0 σ gh S J) (ha : hat gh S 0 0 a) (hrun : zEnd g d1 181 [.ref a, iv p1, iv p2] σ (.inl (some (iv (bi v)))) σ1) (hd : d1 < d) (H1 : hRep g w0 σ1 gh1 S1 J) (hJ : J b = some (wLA f)) :
    ∃ σ2 : zS, zEnd g d 180 [.ref a, iv p1, iv p2, .ref b] σ (.inl (some (iv 0))) σ2 ∧ hRep g w0 σ2 gh1 S1 (zw_up J b (wLA (va_up f 0 (Int64.ofInt (bi v))))) ∧ σ2.2 = σ1.2 := by
  obtain ⟨j1, j2, j3, j4⟩ := H1.jat hJ
  have main : zW g d 180 0 (lv_args 0 [.ref a, iv p1, iv p2, .ref b]) [] σ (fun o σ' => o = .inl (some (iv 0)) ∧ hRep g w0 σ' gh1 S1 (zw_up J b (wLA (va_up f 0 (Int64.ofInt (bi v))))) ∧ σ'.2 = σ1.2) := by
    refine zW_p 5 rfl ?_
    refine wV rfl rfl rfl rfl rfl rfl rfl (H.rc ha rfl rfl) hrun hd ?_
    cases v with
    | true =>
      refine zW_p 3 rfl ?_
      refine wW_last rfl j1 rfl j2 ?_
      refine zW_p 2 rfl ?_
      exact zW_reti rfl rfl rfl ⟨rfl, H1.keepUp hJ, rfl⟩
    | false =>
      refine zW_p 2 rfl ?_
      refine wW_last rfl j1 rfl j2 ?_
      refine zW_p 2 rfl ?_
      exact zW_reti rfl rfl rfl ⟨rfl, H1.keepUp hJ, rfl⟩
  obtain ⟨o, σ', h1, rfl, h2, h3⟩ := main
  exact ⟨σ', h1, h2, h3⟩
theorem Lh_isInX1 (H : hRep g w0 σ gh S J) (ha : hat gh S 0 0 a) (hrun : zEnd g d1 181 [.ref a, iv p1, iv p2] σ (.inr "java/lang/IndexOutOfBoundsException") σ1) (hd : d1 < d) : zEnd g d 180 [.ref a, iv p1, iv p2, .ref b] σ (.inl (some (iv 1))) σ1 := by
  refine zEnd_of ?_
  refine zW_p 5 rfl ?_
  refine wVC (z := (22, [(0, .ref a), (1, iv p1), (2, iv p2), (3, .ref b)])) rfl rfl rfl rfl rfl rfl rfl (H.rc ha rfl rfl) hrun hd rfl rfl ?_
  refine zW_p 1 rfl ?_
  exact zW_reti rfl rfl rfl ⟨rfl, rfl⟩
theorem Lh_touched (H : hRep g w0 σ gh S J) (ha : hat gh S 0 0 a) (hrun : zEnd g d1 19 [.ref a, iv p1] σ (.inl (some (iv r))) σ1) (hd : d1 < d) (H1 : hRep g w0 σ1 gh1 S1 J) (hJ : J b = some (wLA f)) (hr : rg r) :
    ∃ σ2 : zS, zEnd g d 182 [.ref a, iv p1, .ref b] σ (.inl (some (iv 0))) σ2 ∧ hRep g w0 σ2 gh1 S1 (zw_up J b (wLA (va_up f 0 (Int64.ofInt r)))) ∧ σ2.2 = σ1.2 := by
  obtain ⟨j1, j2, j3, j4⟩ := H1.jat hJ
  have main : zW g d 182 0 (lv_args 0 [.ref a, iv p1, .ref b]) [] σ (fun o σ' => o = .inl (some (iv 0)) ∧ hRep g w0 σ' gh1 S1 (zw_up J b (wLA (va_up f 0 (Int64.ofInt r)))) ∧ σ'.2 = σ1.2) := by
    refine zW_p 4 rfl ?_
    refine wV rfl rfl rfl rfl rfl rfl rfl (H.rc ha rfl rfl) hrun hd ?_
    refine zW_p 1 rfl ?_
    rw [L_of hr]
    refine wW_last rfl j1 rfl j2 ?_
    refine zW_p 2 rfl ?_
    exact zW_reti rfl rfl rfl ⟨rfl, H1.keepUp hJ, rfl⟩
  obtain ⟨o, σ', h1, rfl, h2, h3⟩ := main
  exact ⟨σ', h1, h2, h3⟩
theorem Lh_touchedX1 (H : hRep g w0 σ gh S J) (ha : hat gh S 0 0 a) (hrun : zEnd g d1 19 [.ref a, iv p1] σ (.inr "java/lang/IndexOutOfBoundsException") σ1) (hd : d1 < d) : zEnd g d 182 [.ref a, iv p1, .ref b] σ (.inl (some (iv 1))) σ1 := by
  refine zEnd_of ?_
  refine zW_p 4 rfl ?_
  refine wVC (z := (13, [(0, .ref a), (1, iv p1), (2, .ref b)])) rfl rfl rfl rfl rfl rfl rfl (H.rc ha rfl rfl) hrun hd rfl rfl ?_
  refine zW_p 1 rfl ?_
  exact zW_reti rfl rfl rfl ⟨rfl, rfl⟩
theorem Lh_lotsIn (H : hRep g w0 σ gh S J) (ha : hat gh S 0 0 a) (hrun : zEnd g d1 184 [.ref a, iv p1] σ (.inl (some (iv r))) σ1) (hd : d1 < d) (H1 : hRep g w0 σ1 gh1 S1 J) (hJ : J b = some (wLA f)) (hr : rg r) :
    ∃ σ2 : zS, zEnd g d 183 [.ref a, iv p1, .ref b] σ (.inl (some (iv 0))) σ2 ∧ hRep g w0 σ2 gh1 S1 (zw_up J b (wLA (va_up f 0 (Int64.ofInt r)))) ∧ σ2.2 = σ1.2 := by
  obtain ⟨j1, j2, j3, j4⟩ := H1.jat hJ
  have main : zW g d 183 0 (lv_args 0 [.ref a, iv p1, .ref b]) [] σ (fun o σ' => o = .inl (some (iv 0)) ∧ hRep g w0 σ' gh1 S1 (zw_up J b (wLA (va_up f 0 (Int64.ofInt r)))) ∧ σ'.2 = σ1.2) := by
    refine zW_p 4 rfl ?_
    refine wV rfl rfl rfl rfl rfl rfl rfl (H.rc ha rfl rfl) hrun hd ?_
    refine zW_p 1 rfl ?_
    rw [L_of hr]
    refine wW_last rfl j1 rfl j2 ?_
    refine zW_p 2 rfl ?_
    exact zW_reti rfl rfl rfl ⟨rfl, H1.keepUp hJ, rfl⟩
  obtain ⟨o, σ', h1, rfl, h2, h3⟩ := main
  exact ⟨σ', h1, h2, h3⟩
theorem Lh_lotsInX1 (H : hRep g w0 σ gh S J) (ha : hat gh S 0 0 a) (hrun : zEnd g d1 184 [.ref a, iv p1] σ (.inr "java/lang/IndexOutOfBoundsException") σ1) (hd : d1 < d) : zEnd g d 183 [.ref a, iv p1, .ref b] σ (.inl (some (iv 1))) σ1 := by
  refine zEnd_of ?_
  refine zW_p 4 rfl ?_
  refine wVC (z := (13, [(0, .ref a), (1, iv p1), (2, .ref b)])) rfl rfl rfl rfl rfl rfl rfl (H.rc ha rfl rfl) hrun hd rfl rfl ?_
  refine zW_p 1 rfl ?_
  exact zW_reti rfl rfl rfl ⟨rfl, rfl⟩
theorem Lh_deliveredCost (H : hRep g w0 σ gh S J) (ha : hat gh S 0 0 a) (hrun : zEnd g d1 186 [.ref a, iv p1] σ (.inl (some (.long (Int64.ofInt r)))) σ1) (hd : d1 < d) (H1 : hRep g w0 σ1 gh1 S1 J) (hJ : J b = some (wLA f)) :
    ∃ σ2 : zS, zEnd g d 185 [.ref a, iv p1, .ref b] σ (.inl (some (iv 0))) σ2 ∧ hRep g w0 σ2 gh1 S1 (zw_up J b (wLA (va_up f 0 (Int64.ofInt r)))) ∧ σ2.2 = σ1.2 := by
  obtain ⟨j1, j2, j3, j4⟩ := H1.jat hJ
  have main : zW g d 185 0 (lv_args 0 [.ref a, iv p1, .ref b]) [] σ (fun o σ' => o = .inl (some (iv 0)) ∧ hRep g w0 σ' gh1 S1 (zw_up J b (wLA (va_up f 0 (Int64.ofInt r)))) ∧ σ'.2 = σ1.2) := by
    refine zW_p 4 rfl ?_
    refine wV rfl rfl rfl rfl rfl rfl rfl (H.rc ha rfl rfl) hrun hd ?_
    refine wW_last rfl j1 rfl j2 ?_
    refine zW_p 2 rfl ?_
    exact zW_reti rfl rfl rfl ⟨rfl, H1.keepUp hJ, rfl⟩
  obtain ⟨o, σ', h1, rfl, h2, h3⟩ := main
  exact ⟨σ', h1, h2, h3⟩
theorem Lh_deliveredCostX1 (H : hRep g w0 σ gh S J) (ha : hat gh S 0 0 a) (hrun : zEnd g d1 186 [.ref a, iv p1] σ (.inr "java/lang/IndexOutOfBoundsException") σ1) (hd : d1 < d) : zEnd g d 185 [.ref a, iv p1, .ref b] σ (.inl (some (iv 1))) σ1 := by
  refine zEnd_of ?_
  refine zW_p 4 rfl ?_
  refine wVC (z := (12, [(0, .ref a), (1, iv p1), (2, .ref b)])) rfl rfl rfl rfl rfl rfl rfl (H.rc ha rfl rfl) hrun hd rfl rfl ?_
  refine zW_p 1 rfl ?_
  exact zW_reti rfl rfl rfl ⟨rfl, rfl⟩
theorem Lh_deliveredCostX2 (H : hRep g w0 σ gh S J) (ha : hat gh S 0 0 a) (hrun : zEnd g d1 186 [.ref a, iv p1] σ (.inr "java/util/NoSuchElementException") σ1) (hd : d1 < d) : zEnd g d 185 [.ref a, iv p1, .ref b] σ (.inl (some (iv 2))) σ1 := by
  refine zEnd_of ?_
  refine zW_p 4 rfl ?_
  refine wVC (z := (15, [(0, .ref a), (1, iv p1), (2, .ref b)])) rfl rfl rfl rfl rfl rfl rfl (H.rc ha rfl rfl) hrun hd rfl rfl ?_
  refine zW_p 1 rfl ?_
  exact zW_reti rfl rfl rfl ⟨rfl, rfl⟩
theorem Lh_inTimeShare {x : UInt32} (H : hRep g w0 σ gh S J) (ha : hat gh S 0 0 a) (hrun : zEnd g d1 189 [.ref a] σ (.inl (some (.float x))) σ1) (hd : d1 < d) (H1 : hRep g w0 σ1 gh1 S1 J) (hJ : J b = some (wDA fd)) (hr : FP.Core.dIsNaN (FP.f2d x) = false) :
    ∃ σ2 : zS, zEnd g d 187 [.ref a, .ref b] σ (.inl (some (iv 0))) σ2 ∧ hRep g w0 σ2 gh1 S1 (zw_up J b (wDA (va_up fd 0 (FP.f2d x)))) ∧ σ2.2 = σ1.2 := by
  obtain ⟨j1, j2, j3, j4⟩ := H1.jat hJ
  have main : zW g d 187 0 (lv_args 0 [.ref a, .ref b]) [] σ (fun o σ' => o = .inl (some (iv 0)) ∧ hRep g w0 σ' gh1 S1 (zw_up J b (wDA (va_up fd 0 (FP.f2d x)))) ∧ σ'.2 = σ1.2) := by
    refine zW_p 3 rfl ?_
    refine wV rfl rfl rfl rfl rfl rfl rfl (H.rc ha rfl rfl) hrun hd ?_
    refine zW_f2d rfl hr ?_
    refine wW_dast rfl j1 rfl j2 ?_
    refine zW_p 2 rfl ?_
    exact zW_reti rfl rfl rfl ⟨rfl, H1.keepUp hJ, rfl⟩
  obtain ⟨o, σ', h1, rfl, h2, h3⟩ := main
  exact ⟨σ', h1, h2, h3⟩
theorem Lh_inTimeShareX1 (H : hRep g w0 σ gh S J) (ha : hat gh S 0 0 a) (hrun : zEnd g d1 189 [.ref a] σ (.inr "java/lang/ArithmeticException") σ1) (hd : d1 < d) : zEnd g d 187 [.ref a, .ref b] σ (.inl (some (iv 1))) σ1 := by
  refine zEnd_of ?_
  refine zW_p 3 rfl ?_
  refine wVC (z := (12, [(0, .ref a), (1, .ref b)])) rfl rfl rfl rfl rfl rfl rfl (H.rc ha rfl rfl) hrun hd rfl rfl ?_
  refine zW_p 1 rfl ?_
  exact zW_reti rfl rfl rfl ⟨rfl, rfl⟩
theorem Lh_meanBusy {y : UInt64} (H : hRep g w0 σ gh S J) (ha : hat gh S 0 0 a) (hrun : zEnd g d1 192 [.ref a] σ (.inl (some (.double y))) σ1) (hd : d1 < d) (H1 : hRep g w0 σ1 gh1 S1 J) (hJ : J b = some (wDA fd)) :
    ∃ σ2 : zS, zEnd g d 191 [.ref a, .ref b] σ (.inl (some (iv 0))) σ2 ∧ hRep g w0 σ2 gh1 S1 (zw_up J b (wDA (va_up fd 0 (y)))) ∧ σ2.2 = σ1.2 := by
  obtain ⟨j1, j2, j3, j4⟩ := H1.jat hJ
  have main : zW g d 191 0 (lv_args 0 [.ref a, .ref b]) [] σ (fun o σ' => o = .inl (some (iv 0)) ∧ hRep g w0 σ' gh1 S1 (zw_up J b (wDA (va_up fd 0 (y)))) ∧ σ'.2 = σ1.2) := by
    refine zW_p 3 rfl ?_
    refine wV rfl rfl rfl rfl rfl rfl rfl (H.rc ha rfl rfl) hrun hd ?_
    refine wW_dast rfl j1 rfl j2 ?_
    refine zW_p 2 rfl ?_
    exact zW_reti rfl rfl rfl ⟨rfl, H1.keepUp hJ, rfl⟩
  obtain ⟨o, σ', h1, rfl, h2, h3⟩ := main
  exact ⟨σ', h1, h2, h3⟩
theorem Lh_meanBusyX1 (H : hRep g w0 σ gh S J) (ha : hat gh S 0 0 a) (hrun : zEnd g d1 192 [.ref a] σ (.inr "java/lang/ArithmeticException") σ1) (hd : d1 < d) : zEnd g d 191 [.ref a, .ref b] σ (.inl (some (iv 1))) σ1 := by
  refine zEnd_of ?_
  refine zW_p 3 rfl ?_
  refine wVC (z := (11, [(0, .ref a), (1, .ref b)])) rfl rfl rfl rfl rfl rfl rfl (H.rc ha rfl rfl) hrun hd rfl rfl ?_
  refine zW_p 1 rfl ?_
  exact zW_reti rfl rfl rfl ⟨rfl, rfl⟩
end ZLH
