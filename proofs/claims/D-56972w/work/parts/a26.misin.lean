/-! THE MODEL: is a lot in a lot; is an order released -/
set_option maxRecDepth 100000
section ZTN
variable {g : zG} {w0 : hG} {z : Nat → Nat} {σ : zS} {gh : Nat → Nat → Nat} {S T : hS} {J : zw_W} {a b o x xb : Nat} {u v : Int}
def mIsOk (S : hS) (u v : Int) : Bool := decide (0 ≤ u ∧ u ≤ (sn S 14 : Int) - 1) && decide (0 ≤ v ∧ v ≤ (sn S 14 : Int) - 1)
theorem M_isIn (H : hRep g w0 σ gh S J) (hF : mFix S) (hW : mW S) (ha : hat gh S 11 0 a) (hu : rg u) (hv : rg v) :
    ∃ σ' : zS, zEnd g 106 253 [.ref a, iv u, iv v] σ (.inl (some (iv (bi (mIsOk S u v && tHas (mch S) 100 u.toNat v.toNat))))) σ' ∧ hRep g w0 σ' gh (mt S (if mIsOk S u v then 0 else 1)) J ∧ kc σ σ' (if mIsOk S u v then tWalk (mch S) 100 u.toNat v.toNat else 0) (4 * (if mIsOk S u v then tWalk (mch S) 100 u.toNat v.toNat else 0)) := by
  obtain ⟨f0, f1, f2, f3, f4, f5, f6, f7, f8, f9, fa, fb, fc, fd, fe⟩ := hF
  have hr1 : rg ((sn S 14 : Int) - 1) := ⟨by omega, by omega⟩
  have bad : ∀ lv : zp_L, mIsOk S u v = false → lvok [(0, .ref a)] lv → zW g 106 253 50 lv [iv 1, .ref a] σ (fun r σ' => r = .inl (some (iv (bi (mIsOk S u v && tHas (mch S) 100 u.toNat v.toNat)))) ∧ hRep g w0 σ' gh (mt S (if mIsOk S u v then 0 else 1)) J ∧ kc σ σ' (if mIsOk S u v then tWalk (mch S) 100 u.toNat v.toNat else 0) (4 * (if mIsOk S u v then tWalk (mch S) 100 u.toNat v.toNat else 0))) := by
    intro lv hb hlv
    rw [hb, if_neg (by decide), if_neg (by decide), Bool.false_and]
    refine zW_ly hlv rfl ?_
    obtain ⟨σ1, g1, H1, k1⟩ := M_fails (v := 1) H ha ⟨by decide, by decide⟩
    refine wV rfl rfl rfl rfl rfl rfl rfl (H.rc ha rfl rfl) g1 (by omega) ?_
    refine zW_p 2 rfl ?_
    exact zW_reti rfl rfl rfl ⟨rfl, H1, kc.of k1⟩
  have main : zW g 106 253 0 (lv_args 0 [.ref a, iv u, iv v]) [] σ (fun r σ' => r = .inl (some (iv (bi (mIsOk S u v && tHas (mch S) 100 u.toNat v.toNat)))) ∧ hRep g w0 σ' gh (mt S (if mIsOk S u v then 0 else 1)) J ∧ kc σ σ' (if mIsOk S u v then tWalk (mch S) 100 u.toNat v.toNat else 0) (4 * (if mIsOk S u v then tWalk (mch S) 100 u.toNat v.toNat else 0))) := by
    refine zW_p 3 rfl ?_
    refine hW_getr (j := 0) H rfl ha rfl rfl rfl f3 (fun b1 hb1 => ?_)
    refine hW_size H rfl rfl rfl hb1 rfl rfl rfl (by omega) ?_
    rw [f9, idl_len]
    refine zW_p 2 rfl ?_
    rw [I_sub]
    refine wS rfl rfl rfl rfl rfl rfl rfl rfl rfl (M_in (lo := 0) (hi := (sn S 14 : Int) - 1) hu ⟨by decide, by decide⟩ hr1) (by omega) ?_
    by_cases c1 : 0 ≤ u ∧ u ≤ (sn S 14 : Int) - 1
    · rw [decide_eq_true c1]
      refine zW_p 4 rfl ?_
      refine hW_getr (j := 0) H rfl ha rfl rfl rfl f3 (fun b2 hb2 => ?_)
      refine hW_size H rfl rfl rfl hb2 rfl rfl rfl (by omega) ?_
      rw [f9, idl_len]
      refine zW_p 2 rfl ?_
      rw [I_sub]
      refine wS rfl rfl rfl rfl rfl rfl rfl rfl rfl (M_in (lo := 0) (hi := (sn S 14 : Int) - 1) hv ⟨by decide, by decide⟩ hr1) (by omega) ?_
      by_cases c2 : 0 ≤ v ∧ v ≤ (sn S 14 : Int) - 1
      · rw [decide_eq_true c2]
        have hok : mIsOk S u v = true := by unfold mIsOk; rw [decide_eq_true c1, decide_eq_true c2]; rfl
        rw [hok, if_pos rfl, if_pos rfl, Bool.true_and]
        obtain ⟨i, rfl⟩ : ∃ i : Nat, u = i := ⟨u.toNat, (Int.toNat_of_nonneg c1.1).symm⟩
        obtain ⟨j, rfl⟩ : ∃ j : Nat, v = j := ⟨v.toNat, (Int.toNat_of_nonneg c2.1).symm⟩
        rw [Int.toNat_natCast, Int.toNat_natCast]
        refine zW_p 9 rfl ?_
        obtain ⟨σ1, g1, H1, k1⟩ := M_fails (v := 0) H ha ⟨by decide, by decide⟩
        have H1' : hRep g w0 σ1 gh (mt S 0) J := H1
        refine wV rfl rfl rfl rfl rfl rfl rfl (H.rc ha rfl rfl) g1 (by omega) ?_
        refine zW_p 2 rfl ?_
        refine hW_getr (j := 0) H1' rfl (show hat gh (mt S 0) 11 0 a from ha) rfl rfl rfl f3 (fun b3 hb3 => ?_)
        refine zW_p 1 rfl ?_
        refine hW_lget (y := j) H1' rfl rfl rfl hb3 rfl rfl rfl (show (sE S 32 0)[j]? = _ by rw [f9]; exact idl_at (by omega)) rfl (by omega) (fun b4 hb4 => ?_)
        refine hW_cast H1' rfl hb4 rfl rfl rfl ?_
        refine zW_p 1 rfl ?_
        refine hW_getr (j := 0) H1' rfl (show hat gh (mt S 0) 11 0 a from ha) rfl rfl rfl f3 (fun b5 hb5 => ?_)
        refine zW_p 1 rfl ?_
        refine hW_lget (y := i) H1' rfl rfl rfl hb5 rfl rfl rfl (show (sE S 32 0)[i]? = _ by rw [f9]; exact idl_at (by omega)) rfl (by omega) (fun b6 hb6 => ?_)
        refine hW_cast H1' rfl hb6 rfl rfl rfl ?_
        obtain ⟨σ2, g2, H2, k2⟩ := M_has 100 (show j < 100 by omega) H1' hb4 hb6 (show mW (mt S 0) from hW)
        refine wV rfl rfl rfl rfl rfl rfl rfl (H1'.rc hb4 rfl rfl) g2 (by omega) ?_
        have kk : kc σ σ2 (tWalk (mch S) 100 i j) (4 * tWalk (mch S) 100 i j) := kc.same k1 k2
        have hh : tHas (mch (mt S 0)) 100 i j = tHas (mch S) 100 i j := rfl
        rw [hh]
        cases tHas (mch S) 100 i j with
        | true =>
          refine zW_p 3 rfl ?_
          exact zW_reti rfl rfl rfl ⟨rfl, H2, kk⟩
        | false =>
          refine zW_p 2 rfl ?_
          exact zW_reti rfl rfl rfl ⟨rfl, H2, kk⟩
      · rw [decide_eq_false c2]
        refine zW_p 7 rfl ?_
        exact bad _ (by unfold mIsOk; rw [decide_eq_false c2, Bool.and_false]) ⟨rfl, trivial⟩
    · rw [decide_eq_false c1]
      refine zW_p 7 rfl ?_
      exact bad _ (by unfold mIsOk; rw [decide_eq_false c1, Bool.false_and]) ⟨rfl, trivial⟩
  obtain ⟨r, σ', h1, rfl, h2⟩ := main
  exact ⟨σ', h1, h2⟩
def mRel (S : hS) (o : Nat) : Bool := !(decide (sT S 15 5 o = 45) || decide (sT S 15 5 o = 112))
theorem M_isReleased (H : hRep g w0 σ gh S J) (hb : hat gh S 15 o b) (h5 : rg (sT S 15 5 o)) :
    zEnd g 0 235 [.ref b] σ (.inl (some (iv (bi (mRel S o))))) σ := by
  refine zEnd_of ?_
  unfold mRel
  refine zW_p 1 rfl ?_
  refine hW_get H rfl hb rfl rfl rfl ?_
  refine zW_p 1 rfl ?_
  refine zW_br rfl rfl (fun hP => ?_) (fun hP => ?_)
  · have e : sT S 15 5 o = 45 := (I_eq h5 ⟨by decide, by decide⟩).1 hP
    rw [decide_eq_true e, Bool.true_or]
    refine zW_p 1 rfl ?_
    exact zW_reti rfl rfl rfl ⟨rfl, rfl⟩
  · have e : ¬ sT S 15 5 o = 45 := fun q => hP ((I_eq h5 (by constructor <;> decide)).2 q)
    rw [decide_eq_false e, Bool.false_or]
    refine zW_p 1 rfl ?_
    refine hW_get H rfl hb rfl rfl rfl ?_
    refine zW_p 1 rfl ?_
    refine zW_br rfl rfl (fun hP2 => ?_) (fun hP2 => ?_)
    · have e2 : sT S 15 5 o = 112 := (I_eq h5 (by constructor <;> decide)).1 hP2
      rw [decide_eq_true e2]
      refine zW_p 1 rfl ?_
      exact zW_reti rfl rfl rfl ⟨rfl, rfl⟩
    · have e2 : ¬ sT S 15 5 o = 112 := fun q => hP2 ((I_eq h5 (by constructor <;> decide)).2 q)
      rw [decide_eq_false e2]
      refine zW_p 2 rfl ?_
      exact zW_reti rfl rfl rfl ⟨rfl, rfl⟩
end ZTN
