/-! The model's addComponent -/
set_option maxRecDepth 100000
abbrev mIsP (S : hS) (p : Int) : Prop := 0 ≤ p ∧ p < sn S 13
def mClst (S : hS) (p : Int) : Nat := (sT S 13 2 p.toNat).toNat
def mCompCode (S : hS) (p c n o : Int) : Int := if ¬ (mIsP S p ∧ mIsP S c) then 1 else if ¬ (sT S 13 0 p.toNat = 1 ∧ c < p) then 2 else if ¬ ((1 ≤ n ∧ n ≤ 9) ∧ (-1 ≤ o ∧ o ≤ 2)) then 3 else if (sE S 36 (mClst S p)).length = 4 then 4 else 0
/-- a new int[] of three -/
def mTri (S : hS) (x y w : Int) : hS := ssA (ssA (ssA (snw S 46 (List.replicate 3 0)) 46 (sn S 46) [x, 0, 0]) 46 (sn S 46) [x, y, 0]) 46 (sn S 46) [x, y, w]
def mAddComp (S : hS) (p c n o : Int) : hS := if mCompCode S p c n o = 0 then ssE (mTri (mt S 0) c n o) 36 (mClst S p) (sE S 36 (mClst S p) ++ [(sn S 46 : Int)]) else mt S (mCompCode S p c n o)
section ZMC
variable {g : zG} {w0 : hG} {σ : zS} {gh : Nat → Nat → Nat} {S : hS} {J : zw_W} {a : Nat} {p c n o : Int}
theorem M_addComponent (H : hRep g w0 σ gh S J) (hF : mFix S) (hP : mPart S) (ha : hat gh S 11 0 a) (hp : rg p) (hc : rg c) (hn : rg n) (ho : rg o) :
    ∃ σ' : zS, zEnd g 8 202 [.ref a, iv p, iv c, iv n, iv o] σ (.inl (some (iv (if mCompCode S p c n o = 0 then ((sE S 36 (mClst S p)).length + 1 : Nat) else 0)))) σ' ∧ ∃ ghx, gext S gh ghx ∧ hRep g w0 σ' ghx (mAddComp S p c n o) J ∧ kc σ σ' 2 40 := by
  have hfix := hF
  obtain ⟨f0, f1, f2, f3, f4, f5, f6, f7, f8, f9, fa, fb, fc, fd, fe⟩ := hF
  have main : zW g 8 202 0 (lv_args 0 [.ref a, iv p, iv c, iv n, iv o]) [] σ (fun r σ' => r = .inl (some (iv (if mCompCode S p c n o = 0 then ((sE S 36 (mClst S p)).length + 1 : Nat) else 0))) ∧ ∃ ghx, gext S gh ghx ∧ hRep g w0 σ' ghx (mAddComp S p c n o) J ∧ kc σ σ' 2 40) := by
    unfold mAddComp
    generalize hk : mCompCode S p c n o = k
    unfold mCompCode at hk
    have bad1 : ∀ lv : zp_L, k = 1 → zW g 8 202 22 lv [iv 1, .ref a] σ (fun r σ' => r = .inl (some (iv (if k = 0 then ((sE S 36 (mClst S p)).length + 1 : Nat) else 0))) ∧ ∃ ghx, gext S gh ghx ∧ hRep g w0 σ' ghx (if k = 0 then ssE (mTri (mt S 0) c n o) 36 (mClst S p) (sE S 36 (mClst S p) ++ [(sn S 46 : Int)]) else mt S k) J ∧ kc σ σ' 2 40) := by
      intro lv hk1
      rw [hk1]
      rw [if_neg (by decide), if_neg (by decide)]
      obtain ⟨σ1, g1, g2, g3⟩ := M_fails (v := 1) H ha ⟨by decide, by decide⟩
      refine wV rfl rfl rfl rfl rfl rfl rfl (H.rc ha rfl rfl) g1 (by omega) ?_
      refine zW_p 2 rfl ?_
      exact zW_reti rfl rfl rfl ⟨rfl, gh, gext_rfl, g2, (kc.of g3).mono (by omega) (by omega)⟩
    refine zW_p 3 rfl ?_
    refine wV rfl rfl rfl rfl rfl rfl rfl (H.rc ha rfl rfl) (M_isPart H hfix ha hp) (by omega) ?_
    by_cases h1 : mIsP S p
    · rw [decide_eq_true h1]
      refine zW_p 3 rfl ?_
      refine wV rfl rfl rfl rfl rfl rfl rfl (H.rc ha rfl rfl) (M_isPart H hfix ha hc) (by omega) ?_
      by_cases h2 : mIsP S c
      · rw [decide_eq_true h2]
        rw [if_neg (fun q => q ⟨h1, h2⟩)] at hk
        obtain ⟨i, rfl⟩ : ∃ i : Nat, p = i := ⟨p.toNat, (Int.toNat_of_nonneg h1.1).symm⟩
        have hi : i < sn S 13 := by have := h1.2; omega
        rw [Int.toNat_natCast] at hk
        obtain ⟨σ1, g1, g2, g3⟩ := M_fails (v := 0) H ha ⟨by decide, by decide⟩
        have H1 : hRep g w0 σ1 gh (mt S 0) J := g2
        refine zW_p 3 rfl ?_
        refine wV rfl rfl rfl rfl rfl rfl rfl (H.rc ha rfl rfl) g1 (by omega) ?_
        refine zW_p 2 rfl ?_
        refine hW_getr (j := 0) H1 rfl ha rfl rfl rfl f2 (fun b2 hb2 => ?_)
        refine zW_p 1 rfl ?_
        refine hW_lget (y := i) H1 rfl rfl rfl hb2 rfl rfl rfl (show (sE S 31 0)[i]? = _ by rw [f8]; exact idl_at hi) rfl (by omega) (fun b3 hb3 => ?_)
        refine hW_cast H1 rfl hb3 rfl rfl rfl ?_
        refine zW_p 3 rfl ?_
        refine hW_get H1 rfl hb3 rfl rfl rfl ?_
        have e0 : sT (mt S 0) 13 0 i = sT S 13 0 i := rfl
        rw [e0]
        obtain ⟨w0_, w2, w3, w4, w5⟩ := hP i hi
        have e46 : mClst S (i : Nat) = (sT S 13 2 i).toNat := by unfold mClst; rw [Int.toNat_natCast]
        rw [e46] at hk ⊢
        have bad : ∀ lv : zp_L, (k = 2 ∨ k = 3 ∨ k = 4) → zW g 8 202 102 lv [iv k, .ref a] σ1 (fun r σ' => r = .inl (some (iv (if k = 0 then ((sE S 36 (sT S 13 2 i).toNat).length + 1 : Nat) else 0))) ∧ ∃ ghx, gext S gh ghx ∧ hRep g w0 σ' ghx (if k = 0 then ssE (mTri (mt S 0) c n o) 36 (sT S 13 2 i).toNat (sE S 36 (sT S 13 2 i).toNat ++ [(sn S 46 : Int)]) else mt S k) J ∧ kc σ σ' 2 40) := by
          intro lv hk1
          have hk0 : k ≠ 0 := by omega
          rw [if_neg hk0, if_neg hk0]
          obtain ⟨σ2, q1, q2, q3⟩ := M_fails (v := k) H1 (show hat gh (mt S 0) 11 0 a from ha) ⟨by omega, by omega⟩
          rw [decide_eq_true (show 0 < k by omega)] at q1
          refine wV rfl rfl rfl rfl rfl rfl rfl (H1.rc (show hat gh (mt S 0) 11 0 a from ha) rfl rfl) q1 (by omega) ?_
          refine zW_p 2 rfl ?_
          have q2' : hRep g w0 σ2 gh (mt S k) J := by
            rw [← mt_mt (v := 0) (w := k)]
            exact q2
          exact zW_reti rfl rfl rfl ⟨rfl, gh, gext_rfl, q2', ((kc.of g3).trans (kc.of q3)).mono (by omega) (by omega)⟩
        have e36 : ∀ q : Nat, sE (mt S 0) 36 q = sE S 36 q := fun q => rfl
        rcases w0_ with e | e
        · rw [e]
          rw [if_pos (fun q => by omega)] at hk
          refine zW_p 3 rfl ?_
          subst hk
          exact bad _ (Or.inl rfl)
        · rw [e]
          refine zW_p 3 rfl ?_
          refine zW_br rfl rfl (fun hQ => ?_) (fun hQ => ?_)
          · rw [I_lt ⟨by omega, by omega⟩ ⟨by omega, by omega⟩] at hQ
            rw [if_neg (fun q => q ⟨e, hQ⟩)] at hk
            refine zW_p 3 rfl ?_
            refine wS rfl rfl rfl rfl rfl rfl rfl rfl rfl (M_in (lo := 1) (hi := 9) hn ⟨by decide, by decide⟩ ⟨by decide, by decide⟩) (by omega) ?_
            by_cases h3 : 1 ≤ n ∧ n ≤ 9
            · rw [decide_eq_true h3]
              refine zW_p 4 rfl ?_
              refine wS rfl rfl rfl rfl rfl rfl rfl rfl rfl (M_in (lo := -1) (hi := 2) ho ⟨by decide, by decide⟩ ⟨by decide, by decide⟩) (by omega) ?_
              by_cases h4 : -1 ≤ o ∧ o ≤ 2
              · rw [decide_eq_true h4]
                rw [if_neg (fun q => q ⟨h3, h4⟩)] at hk
                refine zW_p 2 rfl ?_
                refine hW_getr (j := (sT S 13 2 i).toNat) H1 rfl hb3 rfl rfl rfl (Int.toNat_of_nonneg w2).symm (fun b5 hb5 => ?_)
                refine hW_size H1 rfl rfl rfl hb5 rfl rfl rfl (by omega) ?_
                rw [e36]
                refine zW_p 1 rfl ?_
                refine zW_br rfl rfl (fun hR => ?_) (fun hR => ?_)
                · have hl : ¬ (sE S 36 (sT S 13 2 i).toNat).length = 4 := fun q => hR (by rw [q]; rfl)
                  rw [if_neg hl] at hk
                  subst hk
                  rw [if_pos rfl, if_pos rfl]
                  obtain ⟨σ2, q1, q2, q3⟩ := M_fails (v := 0) H1 (show hat gh (mt S 0) 11 0 a from ha) ⟨by decide, by decide⟩
                  have H2 : hRep g w0 σ2 gh (mt S 0) J := by
                    rw [← mt_mt (v := 0) (w := 0)]
                    exact q2
                  refine zW_p 1 rfl ?_
                  refine wV rfl rfl rfl rfl rfl rfl rfl (H1.rc (show hat gh (mt S 0) 11 0 a from ha) rfl rfl) q1 (by omega) ?_
                  refine zW_p 2 rfl ?_
                  refine hW_getr (j := (sT S 13 2 i).toNat) H2 rfl hb3 rfl rfl rfl (Int.toNat_of_nonneg w2).symm (fun b6 hb6 => ?_)
                  refine zW_p 1 rfl ?_
                  refine hW_newI (n := 3) H2 rfl (by decide) (fun σ3 b7 H3 hb7 k7 => ?_)
                  have eT0 : sE (snw (mt S 0) 46 (List.replicate 3 0)) 46 (sn S 46) = [0, 0, 0] := by rw [sE_w, if_pos ⟨rfl, rfl⟩]; rfl
                  refine zW_p 3 rfl ?_
                  refine hW_iast (i := sn S 46) (j := 0) (v := c) H3 rfl hb7 (by rw [eT0]; decide) (by rw [eT0]; decide) (fun σ4 H4 k4 => ?_)
                  rw [eT0] at H4
                  have eT1 : sE (ssA (snw (mt S 0) 46 (List.replicate 3 0)) 46 (sn S 46) [c, 0, 0]) 46 (sn S 46) = [c, 0, 0] := by rw [sE_ssA, if_pos ⟨rfl, rfl⟩]
                  have H4' : hRep g w0 σ4 (ghw gh (mt S 0) 46 b7) (ssA (snw (mt S 0) 46 (List.replicate 3 0)) 46 (sn S 46) [c, 0, 0]) J := H4
                  refine zW_p 3 rfl ?_
                  refine hW_iast (i := sn S 46) (j := 1) (v := n) H4' rfl hb7 (by rw [eT1]; show 1 < 3; decide) (by rw [eT1]; show 3 < 1000000; decide) (fun σ5 H5 k5 => ?_)
                  rw [eT1] at H5
                  have eT2 : sE (ssA (ssA (snw (mt S 0) 46 (List.replicate 3 0)) 46 (sn S 46) [c, 0, 0]) 46 (sn S 46) [c, n, 0]) 46 (sn S 46) = [c, n, 0] := by rw [sE_ssA, if_pos ⟨rfl, rfl⟩]
                  have H5' : hRep g w0 σ5 (ghw gh (mt S 0) 46 b7) (ssA (ssA (snw (mt S 0) 46 (List.replicate 3 0)) 46 (sn S 46) [c, 0, 0]) 46 (sn S 46) [c, n, 0]) J := H5
                  refine zW_p 3 rfl ?_
                  refine hW_iast (i := sn S 46) (j := 2) (v := o) H5' rfl hb7 (by rw [eT2]; show 2 < 3; decide) (by rw [eT2]; show 3 < 1000000; decide) (fun σ6 H6 k6 => ?_)
                  rw [eT2] at H6
                  have H6' : hRep g w0 σ6 (ghw gh (mt S 0) 46 b7) (mTri (mt S 0) c n o) J := H6
                  have hb7' : hat (ghw gh (mt S 0) 46 b7) (mTri (mt S 0) c n o) 46 (sn S 46) b7 := hb7
                  have hb6o : hat (ghw gh (mt S 0) 46 b7) (snw (mt S 0) 46 (List.replicate 3 0)) 36 (sT S 13 2 i).toNat b6 := hb6.old
                  have hb6' : hat (ghw gh (mt S 0) 46 b7) (mTri (mt S 0) c n o) 36 (sT S 13 2 i).toNat b6 := hb6o
                  have eL : sE (mTri (mt S 0) c n o) 36 (sT S 13 2 i).toNat = sE S 36 (sT S 13 2 i).toNat := rfl
                  refine hW_add (x := (sn S 46 : Int)) H6' rfl rfl rfl hb6' rfl rfl rfl (elrepR hb7') (alvR hb7'.1) (by rw [eL]; omega) rfl (by omega) (fun σ9 H9 k9 => ?_)
                  rw [eL] at H9 k9
                  refine zW_p 2 rfl ?_
                  have hb3o : hat (ghw gh (mt S 0) 46 b7) (snw (mt S 0) 46 (List.replicate 3 0)) 13 i b3 := hat.old (S := mt S 0) hb3
                  have hb3' : hat (ghw gh (mt S 0) 46 b7) (ssE (mTri (mt S 0) c n o) 36 (sT S 13 2 i).toNat (sE S 36 (sT S 13 2 i).toNat ++ [(sn S 46 : Int)])) 13 i b3 := hb3o
                  refine hW_getr (j := (sT S 13 2 i).toNat) H9 rfl hb3' rfl rfl rfl (Int.toNat_of_nonneg w2).symm (fun b10 hb10 => ?_)
                  refine hW_size H9 rfl rfl rfl hb10 rfl rfl rfl (by omega) ?_
                  have eN : (sE (ssE (mTri (mt S 0) c n o) 36 (sT S 13 2 i).toNat (sE S 36 (sT S 13 2 i).toNat ++ [(sn S 46 : Int)])) 36 (sT S 13 2 i).toNat).length = (sE S 36 (sT S 13 2 i).toNat).length + 1 := by
                    rw [sE_ssE, if_pos ⟨rfl, rfl⟩, List.length_append]
                    rfl
                  rw [eN]
                  have kk := ((((((kc.of g3).trans (kc.of q3)).trans k7).trans (kc.of k4)).trans (kc.of k5)).trans (kc.of k6)).trans k9
                  exact zW_reti rfl rfl rfl ⟨rfl, ghw gh (mt S 0) 46 b7, gext_w (S1 := mt S 0) gext_rfl (fun _ => Nat.le_refl _), H9, kk.mono (by omega) (by omega)⟩
                · have hl : (sE S 36 (sT S 13 2 i).toNat).length = 4 := by
                    by_cases q : (sE S 36 (sT S 13 2 i).toNat).length = 4
                    · exact q
                    · exact absurd (fun q2 => q (by have := (I_eq ⟨by omega, by omega⟩ ⟨by decide, by decide⟩).mp (show Int32.ofInt ((sE S 36 (sT S 13 2 i).toNat).length : Int) = Int32.ofInt 4 from q2); omega)) hR
                  rw [if_pos hl] at hk
                  refine zW_p 2 rfl ?_
                  subst hk
                  exact bad _ (Or.inr (Or.inr rfl))
              · rw [decide_eq_false h4]
                rw [if_pos (fun q => h4 q.2)] at hk
                refine zW_p 3 rfl ?_
                subst hk
                exact bad _ (Or.inr (Or.inl rfl))
            · rw [decide_eq_false h3]
              rw [if_pos (fun q => h3 q.1)] at hk
              refine zW_p 3 rfl ?_
              subst hk
              exact bad _ (Or.inr (Or.inl rfl))
          · rw [I_lt ⟨by omega, by omega⟩ ⟨by omega, by omega⟩] at hQ
            rw [if_pos (fun q => hQ q.2)] at hk
            refine zW_p 2 rfl ?_
            subst hk
            exact bad _ (Or.inl rfl)
      · rw [decide_eq_false h2]
        refine zW_p 2 rfl ?_
        exact bad1 _ (by rw [← hk, if_pos (fun q => h2 q.2)])
    · rw [decide_eq_false h1]
      refine zW_p 2 rfl ?_
      exact bad1 _ (by rw [← hk, if_pos (fun q => h1 q.1)])
  obtain ⟨r, σ', h1, rfl, h2⟩ := main
  exact ⟨σ', h1, h2⟩
end ZMC
