/-! The model's addPart -/
set_option maxRecDepth 100000
def mAddPartT (S : hS) (f : Int) : Int := if ¬ (0 ≤ f ∧ f ≤ 3) then 1 else if sn S 13 = 12 then 2 else 0
def mAddPart (S : hS) (z : Bool) (f : Int) : hS := if mAddPartT S f = 0 then ssE (kMPart (snw (mt S 0) 13 []) (sn S 13) (bi z) f) 31 0 (sE S 31 0 ++ [(sn S 13 : Int)]) else mt S (mAddPartT S f)
theorem le_kMPart {S : hS} {m : Nat} {p q : Int} : ∀ c, sn S c ≤ sn (kMPart S m p q) c := by
  intro c
  unfold kMPart
  (simp only [sn_set, sn_w]; repeat' split) <;> (first | omega | (subst_vars; omega))
theorem bi01 (z : Bool) : bi z = 0 ∨ bi z = 1 := by cases z <;> simp [bi]
section ZAQ
variable {g : zG} {w0 : hG} {σ : zS} {gh : Nat → Nat → Nat} {S : hS} {J : zw_W} {a : Nat} {f : Int} {z : Bool}
theorem M_addPart (H : hRep g w0 σ gh S J) (hF : mFix S) (ha : hat gh S 11 0 a) (hf : rg f) :
    ∃ σ' : zS, zEnd g 8 200 [.ref a, iv (bi z), iv f] σ (.inl (some (iv (if mAddPartT S f = 0 then sn S 13 else 0)))) σ' ∧ ∃ ghx, gext S gh ghx ∧ hRep g w0 σ' ghx (mAddPart S z f) J ∧ kc σ σ' 4 60 := by
  obtain ⟨f0, f1, f2, f3, f4, f5, f6, f7, f8, f9, fa, fb, fc, fd, fe⟩ := hF
  have main : zW g 8 200 0 (lv_args 0 [.ref a, iv (bi z), iv f]) [] σ (fun o σ' => o = .inl (some (iv (if mAddPartT S f = 0 then sn S 13 else 0))) ∧ ∃ ghx, gext S gh ghx ∧ hRep g w0 σ' ghx (mAddPart S z f) J ∧ kc σ σ' 4 60) := by
    unfold mAddPart
    refine zW_p 4 rfl ?_
    refine wS rfl rfl rfl rfl rfl rfl rfl rfl rfl (M_in (lo := 0) (hi := 3) hf ⟨by decide, by decide⟩ ⟨by decide, by decide⟩) (by omega) ?_
    by_cases hok : 0 ≤ f ∧ f ≤ 3
    · rw [decide_eq_true hok]
      refine zW_p 2 rfl ?_
      refine hW_getr H rfl ha rfl rfl rfl f2 (fun b1 hb1 => ?_)
      refine hW_size H rfl rfl rfl hb1 rfl rfl rfl (by omega) ?_
      have e7 : (sE S 31 0).length = sn S 13 := by rw [f8, idl_len]
      rw [e7]
      refine zW_p 1 rfl ?_
      refine zW_br rfl rfl (fun hP => ?_) (fun hP => ?_)
      · have hn : ¬ sn S 13 = 12 := fun e => hP (by rw [e]; rfl)
        have hT : mAddPartT S f = 0 := by unfold mAddPartT; rw [if_neg (fun q => q hok), if_neg hn]
        rw [hT, if_pos rfl, if_pos rfl]
        obtain ⟨σ1, g1, H1, g3⟩ := M_fails (v := 0) H ha ⟨by decide, by decide⟩
        refine zW_p 1 rfl ?_
        refine wV rfl rfl rfl rfl rfl rfl rfl (H.rc ha rfl rfl) g1 (by omega) ?_
        refine zW_p 2 rfl ?_
        refine hW_getr H1 rfl ha.set rfl rfl rfl f2 (fun b6 hb6 => ?_)
        refine hW_new H1 rfl rfl rfl rfl rfl rfl (fun σ7 b7 H7 hb7 k7 => ?_)
        refine zW_p 3 rfl ?_
        obtain ⟨σ8, g8, ghx, x8, H8, k8⟩ := M_newPart (p := bi z) (q := f) H7 hb7 (bi01 z)
        have H8' : hRep g w0 σ8 ghx (kMPart (snw (mt S 0) 13 []) (sn S 13) (bi z) f) J := H8
        refine wI rfl rfl rfl rfl rfl rfl rfl rfl rfl g8 (by omega) ?_
        have hbx : hat ghx (kMPart (snw (mt S 0) 13 []) (sn S 13) (bi z) f) 13 (sn S 13) b7 := x8.hat (S1 := kMPart (snw (mt S 0) 13 []) (sn S 13) (bi z) f) le_kMPart hb7
        have hb6x : hat ghx (kMPart (snw (mt S 0) 13 []) (sn S 13) (bi z) f) 31 0 b6 := x8.hat (S1 := kMPart (snw (mt S 0) 13 []) (sn S 13) (bi z) f) le_kMPart hb6.old
        have hax : hat ghx (kMPart (snw (mt S 0) 13 []) (sn S 13) (bi z) f) 11 0 a := x8.hat (S1 := kMPart (snw (mt S 0) 13 []) (sn S 13) (bi z) f) le_kMPart (hat.old (S := mt S 0) ha)
        have eL : sE (kMPart (snw (mt S 0) 13 []) (sn S 13) (bi z) f) 31 0 = sE S 31 0 := rfl
        refine hW_add (x := (sn S 13 : Int)) H8' rfl rfl rfl hb6x rfl rfl rfl (elrepR hbx) (alvR hbx.1) (by rw [eL, e7]; omega) rfl (by omega) (fun σ9 H9 k9 => ?_)
        refine zW_p 2 rfl ?_
        refine hW_getr (j := 0) H9 rfl hax.ssE rfl rfl rfl f2 (fun b10 hb10 => ?_)
        refine hW_size H9 rfl rfl rfl hb10 rfl rfl rfl (by omega) ?_
        have eN : (sE (ssE (kMPart (snw (mt S 0) 13 []) (sn S 13) (bi z) f) 31 0 (sE (kMPart (snw (mt S 0) 13 []) (sn S 13) (bi z) f) 31 0 ++ [(sn S 13 : Int)])) 31 0).length = sn S 13 + 1 := by
          rw [sE_ssE, if_pos ⟨rfl, rfl⟩, eL, List.length_append, e7]
          rfl
        rw [eN]
        refine zW_p 2 rfl ?_
        rw [I_sub, show ((sn S 13 + 1 : Nat) : Int) - 1 = (sn S 13 : Int) from by omega]
        refine zW_reti rfl rfl rfl ⟨rfl, ghx, gext.trans (gext_w (S1 := mt S 0) gext_rfl (fun _ => Nat.le_refl _)) x8 (fun c => sn_w_le (S := mt S 0)), H9, ?_⟩
        rw [eL, e7] at k9
        exact ((((kc.of g3).trans k7).trans k8).trans k9).mono (by omega) (by omega)
      · have hn : sn S 13 = 12 := by
          by_cases e : sn S 13 = 12
          · exact e
          · exact absurd (fun q => e (by have := (I_eq ⟨by omega, by omega⟩ ⟨by decide, by decide⟩).mp (show Int32.ofInt (sn S 13 : Int) = Int32.ofInt 12 from q); omega)) hP
        have hT : mAddPartT S f = 2 := by unfold mAddPartT; rw [if_neg (fun q => q hok), if_pos hn]
        rw [hT, if_neg (by decide), if_neg (by decide)]
        obtain ⟨σ1, g1, g2, g3⟩ := M_fails (v := 2) H ha ⟨by decide, by decide⟩
        refine zW_p 2 rfl ?_
        refine wV rfl rfl rfl rfl rfl rfl rfl (H.rc ha rfl rfl) g1 (by omega) ?_
        refine zW_p 2 rfl ?_
        exact zW_reti rfl rfl rfl ⟨rfl, gh, gext_rfl, g2, (kc.of g3).mono (by omega) (by omega)⟩
    · rw [decide_eq_false hok]
      have hT : mAddPartT S f = 1 := by unfold mAddPartT; rw [if_pos hok]
      rw [hT, if_neg (by decide), if_neg (by decide)]
      obtain ⟨σ1, g1, g2, g3⟩ := M_fails (v := 1) H ha ⟨by decide, by decide⟩
      refine zW_p 3 rfl ?_
      refine wV rfl rfl rfl rfl rfl rfl rfl (H.rc ha rfl rfl) g1 (by omega) ?_
      refine zW_p 2 rfl ?_
      exact zW_reti rfl rfl rfl ⟨rfl, gh, gext_rfl, g2, (kc.of g3).mono (by omega) (by omega)⟩
  obtain ⟨o, σ', h1, rfl, h2⟩ := main
  exact ⟨σ', h1, h2⟩
end ZAQ
