/-! The model's addOperation -/
set_option maxRecDepth 100000
abbrev mIsM (S : hS) (m : Int) : Prop := 0 ≤ m ∧ m < sn S 12
def mOlst (S : hS) (p : Int) : Nat := (sT S 13 3 p.toNat).toNat
def mOpCode (S : hS) (p m al t : Int) : Int := if ¬ (mIsP S p ∧ mIsM S m ∧ (al = -1 ∨ mIsM S al)) then 1 else if ¬ sT S 13 0 p.toNat = 1 then 2 else if ¬ (1 ≤ t ∧ t ≤ 20) then 3 else if (sE S 37 (mOlst S p)).length = 3 then 4 else 0
def mAddOp (S : hS) (p m al t : Int) : hS := if mOpCode S p m al t = 0 then ssE (mTri (mt S 0) m al t) 37 (mOlst S p) (sE S 37 (mOlst S p) ++ [(sn S 46 : Int)]) else mt S (mOpCode S p m al t)
section ZMC
variable {g : zG} {w0 : hG} {σ : zS} {gh : Nat → Nat → Nat} {S : hS} {J : zw_W} {a : Nat} {p m al t : Int}
theorem M_addOperation (H : hRep g w0 σ gh S J) (hF : mFix S) (hP : mPart S) (ha : hat gh S 11 0 a) (hp : rg p) (hm : rg m) (hal : rg al) (ht : rg t) :
    ∃ σ' : zS, zEnd g 8 204 [.ref a, iv p, iv m, iv al, iv t] σ (.inl (some (iv (if mOpCode S p m al t = 0 then ((sE S 37 (mOlst S p)).length + 1 : Nat) else 0)))) σ' ∧ ∃ ghx, gext S gh ghx ∧ hRep g w0 σ' ghx (mAddOp S p m al t) J ∧ kc σ σ' 2 40 := by
  have hfix := hF
  obtain ⟨f0, f1, f2, f3, f4, f5, f6, f7, f8, f9, fa, fb, fc, fd, fe⟩ := hF
  have main : zW g 8 204 0 (lv_args 0 [.ref a, iv p, iv m, iv al, iv t]) [] σ (fun r σ' => r = .inl (some (iv (if mOpCode S p m al t = 0 then ((sE S 37 (mOlst S p)).length + 1 : Nat) else 0))) ∧ ∃ ghx, gext S gh ghx ∧ hRep g w0 σ' ghx (mAddOp S p m al t) J ∧ kc σ σ' 2 40) := by
    unfold mAddOp
    generalize hk : mOpCode S p m al t = k
    unfold mOpCode at hk
    have bad1 : ∀ lv : zp_L, k = 1 → zW g 8 204 35 lv [iv 1, .ref a] σ (fun r σ' => r = .inl (some (iv (if k = 0 then ((sE S 37 (mOlst S p)).length + 1 : Nat) else 0))) ∧ ∃ ghx, gext S gh ghx ∧ hRep g w0 σ' ghx (if k = 0 then ssE (mTri (mt S 0) m al t) 37 (mOlst S p) (sE S 37 (mOlst S p) ++ [(sn S 46 : Int)]) else mt S k) J ∧ kc σ σ' 2 40) := by
      intro lv hk1
      rw [hk1]
      rw [if_neg (by decide), if_neg (by decide)]
      obtain ⟨σ1, g1, g2, g3⟩ := M_fails (v := 1) H ha ⟨by decide, by decide⟩
      refine wV rfl rfl rfl rfl rfl rfl rfl (H.rc ha rfl rfl) g1 (by omega) ?_
      refine zW_p 2 rfl ?_
      exact zW_reti rfl rfl rfl ⟨rfl, gh, gext_rfl, g2, (kc.of g3).mono (by omega) (by omega)⟩
    have good : mIsP S p → (if ¬ sT S 13 0 p.toNat = 1 then 2 else if ¬ (1 ≤ t ∧ t ≤ 20) then 3 else if (sE S 37 (mOlst S p)).length = 3 then 4 else 0) = k → zW g 8 204 35 (lv_args 0 [.ref a, iv p, iv m, iv al, iv t]) [iv 0, .ref a] σ (fun r σ' => r = .inl (some (iv (if k = 0 then ((sE S 37 (mOlst S p)).length + 1 : Nat) else 0))) ∧ ∃ ghx, gext S gh ghx ∧ hRep g w0 σ' ghx (if k = 0 then ssE (mTri (mt S 0) m al t) 37 (mOlst S p) (sE S 37 (mOlst S p) ++ [(sn S 46 : Int)]) else mt S k) J ∧ kc σ σ' 2 40) := by
      intro h1 hk
      obtain ⟨i, rfl⟩ : ∃ i : Nat, p = i := ⟨p.toNat, (Int.toNat_of_nonneg h1.1).symm⟩
      have hi : i < sn S 13 := by have := h1.2; omega
      rw [Int.toNat_natCast] at hk
      obtain ⟨σ1, g1, g2, g3⟩ := M_fails (v := 0) H ha ⟨by decide, by decide⟩
      have H1 : hRep g w0 σ1 gh (mt S 0) J := g2
      refine wV rfl rfl rfl rfl rfl rfl rfl (H.rc ha rfl rfl) g1 (by omega) ?_
      refine zW_p 2 rfl ?_
      refine hW_getr (j := 0) H1 rfl ha rfl rfl rfl f2 (fun b2 hb2 => ?_)
      refine zW_p 1 rfl ?_
      refine hW_lget (y := i) H1 rfl rfl rfl hb2 rfl rfl rfl (show (sE S 31 0)[i]? = _ by rw [f8]; exact idl_at hi) rfl (by omega) (fun b3 hb3 => ?_)
      refine hW_cast H1 rfl hb3 rfl rfl rfl ?_
      refine zW_p 3 rfl ?_
      refine hW_get H1 rfl hb3 rfl rfl rfl ?_
      have e0 : sT (mt S 0) 13 0 i = sT S 13 0 i := rfl
      rw [e0]
      obtain ⟨w0_, w2, w3, w4, w5⟩ := hP i hi
      have e46 : mOlst S (i : Nat) = (sT S 13 3 i).toNat := by unfold mOlst; rw [Int.toNat_natCast]
      rw [e46] at hk ⊢
      have bad : ∀ lv : zp_L, (k = 2 ∨ k = 3 ∨ k = 4) → zW g 8 204 101 lv [iv k, .ref a] σ1 (fun r σ' => r = .inl (some (iv (if k = 0 then ((sE S 37 (sT S 13 3 i).toNat).length + 1 : Nat) else 0))) ∧ ∃ ghx, gext S gh ghx ∧ hRep g w0 σ' ghx (if k = 0 then ssE (mTri (mt S 0) m al t) 37 (sT S 13 3 i).toNat (sE S 37 (sT S 13 3 i).toNat ++ [(sn S 46 : Int)]) else mt S k) J ∧ kc σ σ' 2 40) := by
        intro lv hk1
        have hk0 : k ≠ 0 := by omega
        rw [if_neg hk0, if_neg hk0]
        obtain ⟨σ2, q1, q2, q3⟩ := M_fails (v := k) H1 (show hat gh (mt S 0) 11 0 a from ha) ⟨by omega, by omega⟩
        rw [decide_eq_true (show 0 < k by omega)] at q1
        refine wV rfl rfl rfl rfl rfl rfl rfl (H1.rc (show hat gh (mt S 0) 11 0 a from ha) rfl rfl) q1 (by omega) ?_
        refine zW_p 2 rfl ?_
        have q2' : hRep g w0 σ2 gh (mt S k) J := by
          rw [← mt_mt (v := 0) (w := k)]
          exact q2
        exact zW_reti rfl rfl rfl ⟨rfl, gh, gext_rfl, q2', ((kc.of g3).trans (kc.of q3)).mono (by omega) (by omega)⟩
      have e36 : ∀ q : Nat, sE (mt S 0) 37 q = sE S 37 q := fun q => rfl
      rcases w0_ with e | e
      · rw [e] at hk ⊢
        rw [if_pos (by decide)] at hk
        refine zW_p 3 rfl ?_
        subst hk
        exact bad _ (Or.inl rfl)
      · rw [e] at hk ⊢
        rw [if_neg (fun q => q rfl)] at hk
        refine zW_p 4 rfl ?_
        refine wS rfl rfl rfl rfl rfl rfl rfl rfl rfl (M_in (lo := 1) (hi := 20) ht ⟨by decide, by decide⟩ ⟨by decide, by decide⟩) (by omega) ?_
        by_cases h3 : 1 ≤ t ∧ t ≤ 20
        · rw [decide_eq_true h3]
          rw [if_neg (fun q => q h3)] at hk
          refine zW_p 2 rfl ?_
          refine hW_getr (j := (sT S 13 3 i).toNat) H1 rfl hb3 rfl rfl rfl (Int.toNat_of_nonneg w3).symm (fun b5 hb5 => ?_)
          refine hW_size H1 rfl rfl rfl hb5 rfl rfl rfl (by omega) ?_
          rw [e36]
          refine zW_p 1 rfl ?_
          refine zW_br rfl rfl (fun hR => ?_) (fun hR => ?_)
          · have hl : ¬ (sE S 37 (sT S 13 3 i).toNat).length = 3 := fun q => hR (by rw [q]; rfl)
            rw [if_neg hl] at hk
            subst hk
            rw [if_pos rfl, if_pos rfl]
            obtain ⟨σ2, q1, q2, q3⟩ := M_fails (v := 0) H1 (show hat gh (mt S 0) 11 0 a from ha) ⟨by decide, by decide⟩
            have H2 : hRep g w0 σ2 gh (mt S 0) J := by
              rw [← mt_mt (v := 0) (w := 0)]
              exact q2
            refine zW_p 1 rfl ?_
            refine wV rfl rfl rfl rfl rfl rfl rfl (H1.rc (show hat gh (mt S 0) 11 0 a from ha) rfl rfl) q1 (by omega) ?_
            refine zW_p 2 rfl ?_
            refine hW_getr (j := (sT S 13 3 i).toNat) H2 rfl hb3 rfl rfl rfl (Int.toNat_of_nonneg w3).symm (fun b6 hb6 => ?_)
            refine zW_p 1 rfl ?_
            refine hW_newI (n := 3) H2 rfl (by decide) (fun σ3 b7 H3 hb7 k7 => ?_)
            have eT0 : sE (snw (mt S 0) 46 (List.replicate 3 0)) 46 (sn S 46) = [0, 0, 0] := by rw [sE_w, if_pos ⟨rfl, rfl⟩]; rfl
            refine zW_p 3 rfl ?_
            refine hW_iast (i := sn S 46) (j := 0) (v := m) H3 rfl hb7 (by rw [eT0]; decide) (by rw [eT0]; decide) (fun σ4 H4 k4 => ?_)
            rw [eT0] at H4
            have eT1 : sE (ssA (snw (mt S 0) 46 (List.replicate 3 0)) 46 (sn S 46) [m, 0, 0]) 46 (sn S 46) = [m, 0, 0] := by rw [sE_ssA, if_pos ⟨rfl, rfl⟩]
            have H4' : hRep g w0 σ4 (ghw gh (mt S 0) 46 b7) (ssA (snw (mt S 0) 46 (List.replicate 3 0)) 46 (sn S 46) [m, 0, 0]) J := H4
            refine zW_p 3 rfl ?_
            refine hW_iast (i := sn S 46) (j := 1) (v := al) H4' rfl hb7 (by rw [eT1]; show 1 < 3; decide) (by rw [eT1]; show 3 < 1000000; decide) (fun σ5 H5 k5 => ?_)
            rw [eT1] at H5
            have eT2 : sE (ssA (ssA (snw (mt S 0) 46 (List.replicate 3 0)) 46 (sn S 46) [m, 0, 0]) 46 (sn S 46) [m, al, 0]) 46 (sn S 46) = [m, al, 0] := by rw [sE_ssA, if_pos ⟨rfl, rfl⟩]
            have H5' : hRep g w0 σ5 (ghw gh (mt S 0) 46 b7) (ssA (ssA (snw (mt S 0) 46 (List.replicate 3 0)) 46 (sn S 46) [m, 0, 0]) 46 (sn S 46) [m, al, 0]) J := H5
            refine zW_p 3 rfl ?_
            refine hW_iast (i := sn S 46) (j := 2) (v := t) H5' rfl hb7 (by rw [eT2]; show 2 < 3; decide) (by rw [eT2]; show 3 < 1000000; decide) (fun σ6 H6 k6 => ?_)
            rw [eT2] at H6
            have H6' : hRep g w0 σ6 (ghw gh (mt S 0) 46 b7) (mTri (mt S 0) m al t) J := H6
            have hb7' : hat (ghw gh (mt S 0) 46 b7) (mTri (mt S 0) m al t) 46 (sn S 46) b7 := hb7
            have hb6o : hat (ghw gh (mt S 0) 46 b7) (snw (mt S 0) 46 (List.replicate 3 0)) 37 (sT S 13 3 i).toNat b6 := hb6.old
            have hb6' : hat (ghw gh (mt S 0) 46 b7) (mTri (mt S 0) m al t) 37 (sT S 13 3 i).toNat b6 := hb6o
            have eL : sE (mTri (mt S 0) m al t) 37 (sT S 13 3 i).toNat = sE S 37 (sT S 13 3 i).toNat := rfl
            refine hW_add (x := (sn S 46 : Int)) H6' rfl rfl rfl hb6' rfl rfl rfl (elrepR hb7') (alvR hb7'.1) (by rw [eL]; omega) rfl (by omega) (fun σ9 H9 k9 => ?_)
            rw [eL] at H9 k9
            refine zW_p 2 rfl ?_
            have hb3o : hat (ghw gh (mt S 0) 46 b7) (snw (mt S 0) 46 (List.replicate 3 0)) 13 i b3 := hat.old (S := mt S 0) hb3
            have hb3' : hat (ghw gh (mt S 0) 46 b7) (ssE (mTri (mt S 0) m al t) 37 (sT S 13 3 i).toNat (sE S 37 (sT S 13 3 i).toNat ++ [(sn S 46 : Int)])) 13 i b3 := hb3o
            refine hW_getr (j := (sT S 13 3 i).toNat) H9 rfl hb3' rfl rfl rfl (Int.toNat_of_nonneg w3).symm (fun b10 hb10 => ?_)
            refine hW_size H9 rfl rfl rfl hb10 rfl rfl rfl (by omega) ?_
            have eN : (sE (ssE (mTri (mt S 0) m al t) 37 (sT S 13 3 i).toNat (sE S 37 (sT S 13 3 i).toNat ++ [(sn S 46 : Int)])) 37 (sT S 13 3 i).toNat).length = (sE S 37 (sT S 13 3 i).toNat).length + 1 := by
              rw [sE_ssE, if_pos ⟨rfl, rfl⟩, List.length_append]
              rfl
            rw [eN]
            have kk := ((((((kc.of g3).trans (kc.of q3)).trans k7).trans (kc.of k4)).trans (kc.of k5)).trans (kc.of k6)).trans k9
            exact zW_reti rfl rfl rfl ⟨rfl, ghw gh (mt S 0) 46 b7, gext_w (S1 := mt S 0) gext_rfl (fun _ => Nat.le_refl _), H9, kk.mono (by omega) (by omega)⟩
          · have hl : (sE S 37 (sT S 13 3 i).toNat).length = 3 := by
              by_cases q : (sE S 37 (sT S 13 3 i).toNat).length = 3
              · exact q
              · exact absurd (fun q2 => q (by have := (I_eq ⟨by omega, by omega⟩ ⟨by decide, by decide⟩).mp (show Int32.ofInt ((sE S 37 (sT S 13 3 i).toNat).length : Int) = Int32.ofInt 3 from q2); omega)) hR
            rw [if_pos hl] at hk
            refine zW_p 2 rfl ?_
            subst hk
            exact bad _ (Or.inr (Or.inr rfl))
        · rw [decide_eq_false h3]
          rw [if_pos h3] at hk
          refine zW_p 3 rfl ?_
          subst hk
          exact bad _ (Or.inr (Or.inl rfl))
    refine zW_p 3 rfl ?_
    refine wV rfl rfl rfl rfl rfl rfl rfl (H.rc ha rfl rfl) (M_isPart H hfix ha hp) (by omega) ?_
    by_cases h1 : mIsP S p
    · rw [decide_eq_true h1]
      refine zW_p 3 rfl ?_
      refine wV rfl rfl rfl rfl rfl rfl rfl (H.rc ha rfl rfl) (M_isMachine H hfix ha hm) (by omega) ?_
      by_cases h2 : mIsM S m
      · rw [decide_eq_true h2]
        refine zW_p 3 rfl ?_
        refine zW_br rfl rfl (fun hQ => ?_) (fun hQ => ?_)
        · have hQ : al = -1 := (I_eq hal ⟨by decide, by decide⟩).mp hQ
          refine zW_p 2 rfl ?_
          rw [if_neg (fun q => q ⟨h1, h2, Or.inl hQ⟩)] at hk
          exact good h1 hk
        · have hQ : ¬ al = -1 := fun q => hQ ((I_eq hal ⟨by decide, by decide⟩).mpr q)
          refine zW_p 2 rfl ?_
          refine wV rfl rfl rfl rfl rfl rfl rfl (H.rc ha rfl rfl) (M_isMachine H hfix ha hal) (by omega) ?_
          by_cases h4 : mIsM S al
          · rw [decide_eq_true h4]
            rw [if_neg (fun q => q ⟨h1, h2, Or.inr h4⟩)] at hk
            refine zW_p 3 rfl ?_
            exact good h1 hk
          · rw [decide_eq_false h4]
            refine zW_p 2 rfl ?_
            exact bad1 _ (by rw [← hk, if_pos (fun q => q.2.2.elim hQ h4)])
      · rw [decide_eq_false h2]
        refine zW_p 2 rfl ?_
        exact bad1 _ (by rw [← hk, if_pos (fun q => h2 q.2.1)])
    · rw [decide_eq_false h1]
      refine zW_p 2 rfl ?_
      exact bad1 _ (by rw [← hk, if_pos (fun q => h1 q.1)])
  obtain ⟨r, σ', h1, rfl, h2⟩ := main
  exact ⟨σ', h1, h2⟩
end ZMC
