/-! THE MODEL's traces -/
set_option maxRecDepth 100000
section ZTM
variable {g : zG} {w0 : hG} {z : Nat → Nat} {σ : zS} {gh : Nat → Nat → Nat} {S T : hS} {J : zw_W} {a b o x xb : Nat} {v : Int}
theorem M_isInO (H : hRep g w0 σ gh S J) (hW : mW S) (h100 : sn S 14 ≤ 100) (hx : hat gh S 14 x xb) (hb : hat gh S 15 o b) (h16 : sT S 15 16 o = (o : Nat)) :
    ∃ σ' : zS, zEnd g 104 256 [.ref xb, .ref b] σ (.inl (some (iv (bi (mInO S x o).1)))) σ' ∧ hRep g w0 σ' gh S J ∧ kc σ σ' (mInO S x o).2 (4 * (mInO S x o).2) := by
  have main : zW g 104 256 0 (lv_args 0 [.ref xb, .ref b]) [] σ (fun r σ' => r = .inl (some (iv (bi (mInO S x o).1))) ∧ hRep g w0 σ' gh S J ∧ kc σ σ' (mInO S x o).2 (4 * (mInO S x o).2)) := by
    refine zW_p 3 rfl ?_
    refine hW_getr H rfl hb rfl rfl rfl h16 (fun b1 hb1 => ?_)
    refine hW_iter H rfl rfl rfl hb1 rfl rfl rfl (by omega) (fun σ1 it hJ H1 k1 => ?_)
    refine zW_p 1 rfl ?_
    refine zW_lv ((3, .ref it) :: [(0, .ref xb), (2, iv (bi (mInQ S x o 0).1))]) rfl ⟨rfl, rfl, rfl, trivial⟩ ?_
    refine hW_loop (c := 40) (i := o) (b := b1) (n := 14) (xs := sE S 40 o) (mc := Int32.ofInt (sM S 40 o)) (fun q lv κ gh' S' => lv = [(0, .ref xb), (2, iv (bi (mInQ S x o q).1))] ∧ gh' = gh ∧ S' = S ∧ kd σ.2 κ (mInQ S x o q).2 (4 * (mInQ S x o q).2)) hJ rfl rfl rfl (fun _ => rfl) rfl rfl rfl (fun _ => rfl) (fun _ => rfl) rfl rfl rfl (by omega) ?_ ?_ ?_ _ _ _ _ H1 ⟨rfl, rfl, rfl, k1⟩
    · rintro q lv κ gh' S' ⟨rfl, rfl, rfl, hk⟩
      exact ⟨hb1, rfl, rfl⟩
    · rintro q l lv σ2 gh' S' J2 e hq hy ⟨rfl, rfl, rfl, hk⟩ H2 hd he hback
      have hs := mInQ_succ (x := x) hy
      generalize hL : mInQ S' x o q = L at hk hs
      obtain ⟨fd, ct⟩ := L
      unfold inStep at hs
      simp only at hk hs
      have back : ∀ (r : Bool) (σ5 : zS) (lv : zp_L), hRep g w0 σ5 gh' S' J2 → r = (mInQ S' x o (q + 1)).1 → kd σ.2 σ5.2 (mInQ S' x o (q + 1)).2 (4 * (mInQ S' x o (q + 1)).2) → lvok [(0, .ref xb), (3, .ref it)] lv → zW g 104 256 54 lv [iv (bi r)] σ5 (fun r σ' => r = .inl (some (iv (bi (mInO S' x o).1))) ∧ hRep g w0 σ' gh' S' J ∧ kc σ σ' (mInO S' x o).2 (4 * (mInO S' x o).2)) := by
        intro r σ5 lv H5 hr hk5 hlv
        refine zW_ly hlv rfl ?_
        refine zW_p 2 rfl ?_
        refine zW_lv ((3, .ref it) :: [(0, .ref xb), (2, iv (bi r))]) rfl ⟨rfl, rfl, rfl, trivial⟩ ?_
        exact hback _ σ5 _ _ H5 ⟨by rw [hr], rfl, rfl, hk5⟩
      refine hW_cast H2 rfl he rfl rfl rfl ?_
      refine zW_p 2 rfl ?_
      cases fd with
      | true =>
        rw [if_pos rfl] at hs
        refine zW_p 3 rfl ?_
        exact back true σ2 _ H2 (by rw [hs]) (by rw [hs]; exact hk) ⟨rfl, rfl, trivial⟩
      | false =>
        rw [if_neg (by decide)] at hs
        refine zW_p 3 rfl ?_
        by_cases e1 : l = x
        · rw [if_pos e1, decide_eq_true e1, Bool.true_or] at hs
          refine zW_t rfl rfl (by rw [← he.2, ← hx.2, e1]) ?_
          refine zW_p 2 rfl ?_
          exact back true σ2 _ H2 (by rw [hs]) (by rw [hs]; exact hk) ⟨rfl, rfl, trivial⟩
        · rw [if_neg e1, decide_eq_false e1, Bool.false_or] at hs
          refine zW_f rfl rfl (fun q => e1 ((H2.inj he.1 hx.1 (by rw [he.2, hx.2]; exact q)).2)) ?_
          refine zW_p 2 rfl ?_
          obtain ⟨σ6, g6, H6, k6⟩ := M_has 100 (show l < 100 by have := he.1; omega) H2 he hx hW
          refine wV rfl rfl rfl rfl rfl rfl rfl (H2.rc he rfl rfl) g6 (by omega) ?_
          have kk : kd σ.2 σ6.2 (ct + tWalk (mch S') 100 x l) (4 * (ct + tWalk (mch S') 100 x l)) := (hk.trans k6).mono (Nat.le_refl _) (by omega)
          cases hh : tHas (mch S') 100 x l with
          | true =>
            rw [hh] at hs
            refine zW_p 3 rfl ?_
            exact back true σ6 _ H6 (by rw [hs]) (by rw [hs]; exact kk) ⟨rfl, rfl, trivial⟩
          | false =>
            rw [hh] at hs
            refine zW_p 2 rfl ?_
            exact back false σ6 _ H6 (by rw [hs]) (by rw [hs]; exact kk) ⟨rfl, rfl, trivial⟩
    · rintro lv σ2 gh' S' H2 ⟨rfl, rfl, rfl, hk⟩
      refine zW_p 1 rfl ?_
      exact zW_reti rfl rfl (by cases (mInQ S' x o (sE S' 40 o).length).1 <;> rfl) ⟨rfl, H2, hk⟩
  obtain ⟨r, σ', h1, rfl, h2⟩ := main
  exact ⟨σ', h1, h2⟩
theorem mInO_mt {n : Int} : mInO (mt S n) x o = mInO S x o := rfl
def mTouch (S : hS) (v : Int) : Nat × Nat := if 0 ≤ v ∧ v < sn S 14 then cntP (mInO S v.toNat) (sn S 15) else (0, 0)
theorem M_touched (H : hRep g w0 σ gh S J) (hF : mFix S) (hW : mW S) (hO2 : mOrd2 S) (ha : hat gh S 11 0 a) (hv : rg v) :
    ∃ σ' : zS, zEnd g 106 255 [.ref a, iv v] σ (.inl (some (iv (mTouch S v).1))) σ' ∧ hRep g w0 σ' gh (mt S (if 0 ≤ v ∧ v < sn S 14 then 0 else 1)) J ∧ kc σ σ' (mTouch S v).2 (4 * (mTouch S v).2) := by
  obtain ⟨σ0, g0, H0, k0⟩ := M_failsLot H hF ha hv
  obtain ⟨f0, f1, f2, f3, f4, f5, f6, f7, f8, f9, fa, fb, fc, fd, fe⟩ := hF
  have main : zW g 106 255 0 (lv_args 0 [.ref a, iv v]) [] σ (fun r σ' => r = .inl (some (iv (mTouch S v).1)) ∧ hRep g w0 σ' gh (mt S (if 0 ≤ v ∧ v < sn S 14 then 0 else 1)) J ∧ kc σ σ' (mTouch S v).2 (4 * (mTouch S v).2)) := by
    unfold mTouch
    refine zW_p 2 rfl ?_
    refine wV rfl rfl rfl rfl rfl rfl rfl (H.rc ha rfl rfl) g0 (by omega) ?_
    by_cases hc : 0 ≤ v ∧ v < sn S 14
    · rw [decide_eq_true hc] at H0 ⊢
      rw [if_pos hc, if_pos hc]
      obtain ⟨x, rfl⟩ : ∃ i : Nat, v = i := ⟨v.toNat, (Int.toNat_of_nonneg hc.1).symm⟩
      rw [Int.toNat_natCast]
      have hxl : x < sn S 14 := by omega
      have H0' : hRep g w0 σ0 gh (mt S 0) J := H0
      refine zW_p 4 rfl ?_
      refine hW_getr (j := 0) H0' rfl ha rfl rfl rfl f4 (fun b1 hb1 => ?_)
      refine hW_iter H0' rfl rfl rfl hb1 rfl rfl rfl (by omega) (fun σ1 it hJ H1 k1 => ?_)
      refine zW_p 1 rfl ?_
      refine zW_lv ((3, .ref it) :: [(0, .ref a), (1, iv x), (2, iv (cntP (mInO S x) 0).1)]) rfl ⟨rfl, rfl, rfl, rfl, trivial⟩ ?_
      refine hW_loop (c := 33) (i := 0) (b := b1) (n := 15) (xs := sE S 33 0) (mc := Int32.ofInt (sM S 33 0)) (fun p lv κ gh' S' => lv = [(0, .ref a), (1, iv x), (2, iv (cntP (mInO S x) p).1)] ∧ gh' = gh ∧ S' = mt S 0 ∧ kd σ.2 κ (cntP (mInO S x) p).2 (4 * (cntP (mInO S x) p).2)) hJ rfl rfl rfl (fun _ => rfl) rfl rfl rfl (fun _ => rfl) (fun _ => rfl) rfl rfl rfl (by omega) ?_ ?_ ?_ _ _ _ _ H1 ⟨rfl, rfl, rfl, kc.same k0 k1⟩
      · rintro q lv κ gh' S' ⟨rfl, rfl, rfl, hk⟩
        exact ⟨hb1, rfl, rfl⟩
      · rintro p y lv σ2 gh' S' J2 e hp hy ⟨rfl, rfl, rfl, hk⟩ H2 hd he hback
        rw [fa, idl_len] at hp
        rw [fa, idl_at hp] at hy
        obtain rfl : p = y := by have := Option.some.inj hy; omega
        have hs := cntP_succ (f := mInO S x) (n := p)
        obtain ⟨o1, o2, o3, o4⟩ := hO2 p he.1
        refine hW_cast H2 rfl he rfl rfl rfl ?_
        refine zW_p 3 rfl ?_
        refine hW_getr (j := 0) H2 rfl (show hat gh' (mt S 0) 11 0 a from ha) rfl rfl rfl f3 (fun b2 hb2 => ?_)
        refine zW_p 1 rfl ?_
        refine hW_lget (y := x) H2 rfl rfl rfl hb2 rfl rfl rfl (show (sE S 32 0)[x]? = _ by rw [f9]; exact idl_at hxl) rfl (by omega) (fun xb hxb => ?_)
        refine hW_cast H2 rfl hxb rfl rfl rfl ?_
        refine zW_p 1 rfl ?_
        obtain ⟨σ6, g6, H6, k6⟩ := M_isInO H2 (show mW (mt S 0) from hW) fd hxb he (show sT S 15 16 p = _ from o3)
        rw [mInO_mt] at g6 k6
        refine wS rfl rfl rfl rfl rfl rfl rfl rfl rfl g6 (by omega) ?_
        have kk : kd σ.2 σ6.2 (cntP (mInO S x) (p + 1)).2 (4 * (cntP (mInO S x) (p + 1)).2) := by rw [hs]; exact (hk.trans k6).mono (Nat.le_refl _) (by show _ ≤ 4 * ((cntP (mInO S x) p).2 + (mInO S x p).2); omega)
        cases hh : (mInO S x p).1 with
        | true =>
          rw [hh, if_pos rfl] at hs
          refine zW_p 4 rfl ?_
          rw [I_add]
          refine zW_p 2 rfl ?_
          refine zW_lv ((3, .ref it) :: [(0, .ref a), (1, iv x), (2, iv (cntP (mInO S x) (p + 1)).1)]) rfl ⟨rfl, rfl, rfl, by rw [hs]; rfl, trivial⟩ ?_
          exact hback _ σ6 _ _ H6 ⟨rfl, rfl, rfl, kk⟩
        | false =>
          rw [hh, if_neg (by decide)] at hs
          refine zW_p 3 rfl ?_
          rw [I_add]
          refine zW_p 2 rfl ?_
          refine zW_lv ((3, .ref it) :: [(0, .ref a), (1, iv x), (2, iv (cntP (mInO S x) (p + 1)).1)]) rfl ⟨rfl, rfl, rfl, by rw [hs]; rfl, trivial⟩ ?_
          exact hback _ σ6 _ _ H6 ⟨rfl, rfl, rfl, kk⟩
      · rintro lv σ2 gh' S' H2 ⟨rfl, rfl, rfl, hk⟩
        rw [fa, idl_len] at hk ⊢
        refine zW_p 1 rfl ?_
        exact zW_reti rfl rfl rfl ⟨rfl, H2, hk⟩
    · rw [decide_eq_false hc] at H0 ⊢
      rw [if_neg hc, if_neg hc]
      refine zW_p 2 rfl ?_
      exact zW_reti rfl rfl rfl ⟨rfl, H0, kc.of k0⟩
  obtain ⟨r, σ', h1, rfl, h2⟩ := main
  exact ⟨σ', h1, h2⟩
def mLotsIn (S : hS) (v : Int) : Nat × Nat := if 0 ≤ v ∧ v < sn S 15 then cntP (fun x => mInO S x v.toNat) (sn S 14) else (0, 0)
theorem M_lotsIn (H : hRep g w0 σ gh S J) (hF : mFix S) (hW : mW S) (hO2 : mOrd2 S) (ha : hat gh S 11 0 a) (hv : rg v) :
    ∃ σ' : zS, zEnd g 106 257 [.ref a, iv v] σ (.inl (some (iv (mLotsIn S v).1))) σ' ∧ hRep g w0 σ' gh (mt S (if 0 ≤ v ∧ v < sn S 15 then 0 else 1)) J ∧ kc σ σ' (mLotsIn S v).2 (4 * (mLotsIn S v).2) := by
  obtain ⟨σ0, g0, H0, k0⟩ := M_failsOrder H hF ha hv
  obtain ⟨f0, f1, f2, f3, f4, f5, f6, f7, f8, f9, fa, fb, fc, fd, fe⟩ := hF
  have main : zW g 106 257 0 (lv_args 0 [.ref a, iv v]) [] σ (fun r σ' => r = .inl (some (iv (mLotsIn S v).1)) ∧ hRep g w0 σ' gh (mt S (if 0 ≤ v ∧ v < sn S 15 then 0 else 1)) J ∧ kc σ σ' (mLotsIn S v).2 (4 * (mLotsIn S v).2)) := by
    unfold mLotsIn
    refine zW_p 2 rfl ?_
    refine wV rfl rfl rfl rfl rfl rfl rfl (H.rc ha rfl rfl) g0 (by omega) ?_
    by_cases hc : 0 ≤ v ∧ v < sn S 15
    · rw [decide_eq_true hc] at H0 ⊢
      rw [if_pos hc, if_pos hc]
      obtain ⟨o, rfl⟩ : ∃ i : Nat, v = i := ⟨v.toNat, (Int.toNat_of_nonneg hc.1).symm⟩
      rw [Int.toNat_natCast]
      have hol : o < sn S 15 := by omega
      have H0' : hRep g w0 σ0 gh (mt S 0) J := H0
      refine zW_p 4 rfl ?_
      refine hW_getr (j := 0) H0' rfl ha rfl rfl rfl f3 (fun b1 hb1 => ?_)
      refine hW_iter H0' rfl rfl rfl hb1 rfl rfl rfl (by omega) (fun σ1 it hJ H1 k1 => ?_)
      refine zW_p 1 rfl ?_
      refine zW_lv ((3, .ref it) :: [(0, .ref a), (1, iv o), (2, iv (cntP (fun x => mInO S x o) 0).1)]) rfl ⟨rfl, rfl, rfl, rfl, trivial⟩ ?_
      refine hW_loop (c := 32) (i := 0) (b := b1) (n := 14) (xs := sE S 32 0) (mc := Int32.ofInt (sM S 32 0)) (fun p lv κ gh' S' => lv = [(0, .ref a), (1, iv o), (2, iv (cntP (fun x => mInO S x o) p).1)] ∧ gh' = gh ∧ S' = mt S 0 ∧ kd σ.2 κ (cntP (fun x => mInO S x o) p).2 (4 * (cntP (fun x => mInO S x o) p).2)) hJ rfl rfl rfl (fun _ => rfl) rfl rfl rfl (fun _ => rfl) (fun _ => rfl) rfl rfl rfl (by omega) ?_ ?_ ?_ _ _ _ _ H1 ⟨rfl, rfl, rfl, kc.same k0 k1⟩
      · rintro q lv κ gh' S' ⟨rfl, rfl, rfl, hk⟩
        exact ⟨hb1, rfl, rfl⟩
      · rintro p y lv σ2 gh' S' J2 e hp hy ⟨rfl, rfl, rfl, hk⟩ H2 hd he hback
        rw [f9, idl_len] at hp
        rw [f9, idl_at hp] at hy
        obtain rfl : p = y := by have := Option.some.inj hy; omega
        have hs := cntP_succ (f := fun x => mInO S x o) (n := p)
        obtain ⟨o1, o2, o3, o4⟩ := hO2 o hol
        refine hW_cast H2 rfl he rfl rfl rfl ?_
        refine zW_p 4 rfl ?_
        refine hW_getr (j := 0) H2 rfl (show hat gh' (mt S 0) 11 0 a from ha) rfl rfl rfl f4 (fun b2 hb2 => ?_)
        refine zW_p 1 rfl ?_
        refine hW_lget (y := o) H2 rfl rfl rfl hb2 rfl rfl rfl (show (sE S 33 0)[o]? = _ by rw [fa]; exact idl_at hol) rfl (by omega) (fun ob hob => ?_)
        refine hW_cast H2 rfl hob rfl rfl rfl ?_
        obtain ⟨σ6, g6, H6, k6⟩ := M_isInO H2 (show mW (mt S 0) from hW) fd he hob (show sT S 15 16 o = _ from o3)
        rw [mInO_mt] at g6 k6
        refine wS rfl rfl rfl rfl rfl rfl rfl rfl rfl g6 (by omega) ?_
        have kk : kd σ.2 σ6.2 (cntP (fun x => mInO S x o) (p + 1)).2 (4 * (cntP (fun x => mInO S x o) (p + 1)).2) := by rw [hs]; exact (hk.trans k6).mono (Nat.le_refl _) (by show _ ≤ 4 * ((cntP (fun x => mInO S x o) p).2 + (mInO S p o).2); omega)
        cases hh : (mInO S p o).1 with
        | true =>
          rw [hh, if_pos rfl] at hs
          refine zW_p 4 rfl ?_
          rw [I_add]
          refine zW_p 2 rfl ?_
          refine zW_lv ((3, .ref it) :: [(0, .ref a), (1, iv o), (2, iv (cntP (fun x => mInO S x o) (p + 1)).1)]) rfl ⟨rfl, rfl, rfl, by rw [hs]; rfl, trivial⟩ ?_
          exact hback _ σ6 _ _ H6 ⟨rfl, rfl, rfl, kk⟩
        | false =>
          rw [hh, if_neg (by decide)] at hs
          refine zW_p 3 rfl ?_
          rw [I_add]
          refine zW_p 2 rfl ?_
          refine zW_lv ((3, .ref it) :: [(0, .ref a), (1, iv o), (2, iv (cntP (fun x => mInO S x o) (p + 1)).1)]) rfl ⟨rfl, rfl, rfl, by rw [hs]; rfl, trivial⟩ ?_
          exact hback _ σ6 _ _ H6 ⟨rfl, rfl, rfl, kk⟩
      · rintro lv σ2 gh' S' H2 ⟨rfl, rfl, rfl, hk⟩
        rw [f9, idl_len] at hk ⊢
        refine zW_p 1 rfl ?_
        exact zW_reti rfl rfl rfl ⟨rfl, H2, hk⟩
    · rw [decide_eq_false hc] at H0 ⊢
      rw [if_neg hc, if_neg hc]
      refine zW_p 2 rfl ?_
      exact zW_reti rfl rfl rfl ⟨rfl, H0, kc.of k0⟩
  obtain ⟨r, σ', h1, rfl, h2⟩ := main
  exact ⟨σ', h1, h2⟩
end ZTM
