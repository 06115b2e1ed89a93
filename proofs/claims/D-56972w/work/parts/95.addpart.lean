/-! Foundrymark.addPart -/
set_option maxRecDepth 100000
def fAddPart (S : hS) (z : Bool) (f : Int) : hS := if z then ssE (kFMade (snw S 2 []) (sn S 2) (sE S 21 0).length f) 21 0 (sE S 21 0 ++ [((2 * sn S 2 : Nat) : Int)]) else ssE (kFBought (snw S 3 []) (sn S 3) (sE S 21 0).length f) 21 0 (sE S 21 0 ++ [((2 * sn S 3 + 1 : Nat) : Int)])
theorem le_kFMade {S : hS} {m : Nat} {p q : Int} : ∀ c, sn S c ≤ sn (kFMade S m p q) c := by
  intro c
  unfold kFMade kPartInit2
  (simp only [sn_set, sn_w]; repeat' split) <;> (first | omega | (subst_vars; omega))
theorem le_kFBought {S : hS} {m : Nat} {p q : Int} : ∀ c, sn S c ≤ sn (kFBought S m p q) c := by
  intro c
  unfold kFBought kPartInit3
  simp only [sn_set]
  exact Nat.le_refl _
section ZAP
variable {g : zG} {w0 : hG} {σ : zS} {gh : Nat → Nat → Nat} {S : hS} {J : zw_W} {a : Nat} {f : Int} {z : Bool}
theorem F_addPartA (H : hRep g w0 σ gh S J) (hf : rg f) (hok : ¬ (0 ≤ f ∧ f ≤ 3)) : ∃ σ' : zS, zEnd g 8 54 [.ref a, iv (bi z), iv f] σ (.inr "java/lang/IllegalArgumentException") σ' ∧ hRep g w0 σ' gh S J ∧ kc σ σ' 1 6 := by
  have main : zW g 8 54 0 (lv_args 0 [.ref a, iv (bi z), iv f]) [] σ (fun o σ' => o = .inr "java/lang/IllegalArgumentException" ∧ hRep g w0 σ' gh S J ∧ kc σ σ' 1 6) := by
    refine zW_p 3 rfl ?_
    refine wS rfl rfl rfl rfl rfl rfl rfl rfl rfl (F_between (lo := 0) (hi := 3) hf ⟨by decide, by decide⟩ ⟨by decide, by decide⟩) (by omega) ?_
    rw [decide_eq_false hok]
    obtain ⟨σ1, g1, g2, g3⟩ := F_reqF37 H
    exact wST rfl rfl rfl rfl rfl rfl rfl rfl rfl g1 (by omega) rfl ⟨rfl, g2, g3⟩
  obtain ⟨o, σ', h1, rfl, h2, h3⟩ := main
  exact ⟨σ', h1, h2, h3⟩
theorem F_addPartB (H : hRep g w0 σ gh S J) (hF : fFix S) (ha : hat gh S 0 0 a) (hf : rg f) (hok : 0 ≤ f ∧ f ≤ 3) (hn : (sE S 21 0).length = 12) : ∃ σ' : zS, zEnd g 8 54 [.ref a, iv (bi z), iv f] σ (.inr "java/lang/IllegalStateException") σ' ∧ hRep g w0 σ' gh S J ∧ kc σ σ' 1 6 := by
  obtain ⟨f0, f1, f2, f3, f4, f5, f6, f7, f8, f9, fa, fb, fc, fd⟩ := hF
  have main : zW g 8 54 0 (lv_args 0 [.ref a, iv (bi z), iv f]) [] σ (fun o σ' => o = .inr "java/lang/IllegalStateException" ∧ hRep g w0 σ' gh S J ∧ kc σ σ' 1 6) := by
    refine zW_p 3 rfl ?_
    refine wS rfl rfl rfl rfl rfl rfl rfl rfl rfl (F_between (lo := 0) (hi := 3) hf ⟨by decide, by decide⟩ ⟨by decide, by decide⟩) (by omega) ?_
    rw [decide_eq_true hok]
    refine wS rfl rfl rfl rfl rfl rfl rfl rfl rfl F_reqT37 (by omega) ?_
    refine zW_p 1 rfl ?_
    refine hW_getr H rfl ha rfl rfl rfl f2 (fun b3 hb3 => ?_)
    refine hW_size H rfl rfl rfl hb3 rfl rfl rfl (by omega) ?_
    rw [hn]
    refine zW_p 3 rfl ?_
    obtain ⟨σ1, g1, g2, g3⟩ := F_reqF39 H
    exact wST rfl rfl rfl rfl rfl rfl rfl rfl rfl g1 (by omega) rfl ⟨rfl, g2, g3⟩
  obtain ⟨o, σ', h1, rfl, h2, h3⟩ := main
  exact ⟨σ', h1, h2, h3⟩
theorem F_addPart (H : hRep g w0 σ gh S J) (hF : fFix S) (ha : hat gh S 0 0 a) (hf : rg f) (hok : 0 ≤ f ∧ f ≤ 3) (hn : (sE S 21 0).length < 12) :
    ∃ σ' : zS, zEnd g 8 54 [.ref a, iv (bi z), iv f] σ (.inl (some (iv (sE S 21 0).length))) σ' ∧ ∃ ghx, gext S gh ghx ∧ hRep g w0 σ' ghx (fAddPart S z f) J ∧ kc σ σ' 4 60 := by
  obtain ⟨f0, f1, f2, f3, f4, f5, f6, f7, f8, f9, fa, fb, fc, fd⟩ := hF
  have main : zW g 8 54 0 (lv_args 0 [.ref a, iv (bi z), iv f]) [] σ (fun o σ' => o = .inl (some (iv (sE S 21 0).length)) ∧ ∃ ghx, gext S gh ghx ∧ hRep g w0 σ' ghx (fAddPart S z f) J ∧ kc σ σ' 4 60) := by
    refine zW_p 3 rfl ?_
    refine wS rfl rfl rfl rfl rfl rfl rfl rfl rfl (F_between (lo := 0) (hi := 3) hf ⟨by decide, by decide⟩ ⟨by decide, by decide⟩) (by omega) ?_
    rw [decide_eq_true hok]
    refine wS rfl rfl rfl rfl rfl rfl rfl rfl rfl F_reqT37 (by omega) ?_
    refine zW_p 1 rfl ?_
    refine hW_getr H rfl ha rfl rfl rfl f2 (fun b3 hb3 => ?_)
    refine hW_size H rfl rfl rfl hb3 rfl rfl rfl (by omega) ?_
    refine zW_p 1 rfl ?_
    refine zW_br rfl rfl (fun hP => ?_) (fun hP => ?_)
    · rw [show (Int8.ofInt 12).toInt32 = Int32.ofInt 12 from rfl, I_le ⟨by decide, by decide⟩ ⟨by omega, by omega⟩] at hP
      omega
    · refine zW_p 2 rfl ?_
      refine wS rfl rfl rfl rfl rfl rfl rfl rfl rfl F_reqT39 (by omega) ?_
      refine zW_p 1 rfl ?_
      refine hW_getr H rfl ha rfl rfl rfl f2 (fun b6 hb6 => ?_)
      refine hW_size H rfl rfl rfl hb6 rfl rfl rfl (by omega) ?_
      refine zW_p 2 rfl ?_
      refine hW_getr H rfl ha rfl rfl rfl f2 (fun b8 hb8 => ?_)
      unfold fAddPart
      cases z with
      | true =>
        rw [if_pos rfl]
        refine zW_p 2 rfl ?_
        refine hW_new H rfl rfl rfl rfl rfl rfl (fun σ9 b9 H9 hb9 k9 => ?_)
        refine zW_p 3 rfl ?_
        obtain ⟨σ8, g8, ghx, x8, H8, k8⟩ := F_newMade (p := (sE S 21 0).length) (q := f) H9 hb9
        refine wI rfl rfl rfl rfl rfl rfl rfl rfl rfl g8 (by omega) ?_
        have hbx := x8.hat (S1 := kFMade (snw S 2 []) (sn S 2) (sE S 21 0).length f) le_kFMade hb9
        have hb8x := x8.hat (S1 := kFMade (snw S 2 []) (sn S 2) (sE S 21 0).length f) le_kFMade hb8.old
        have eL : sE (kFMade (snw S 2 []) (sn S 2) (sE S 21 0).length f) 21 0 = sE S 21 0 := rfl
        have hy : hat ghx (kFMade (snw S 2 []) (sn S 2) (sE S 21 0).length f) (2 + (2 * sn S 2) % 2) (2 * sn S 2 / 2) b9 := by
          rw [show 2 + (2 * sn S 2) % 2 = 2 by omega, show 2 * sn S 2 / 2 = sn S 2 by omega]
          exact hbx
        refine zW_p 1 rfl ?_
        refine hW_add (x := ((2 * sn S 2 : Nat) : Int)) H8 rfl rfl rfl hb8x rfl rfl rfl (elrepP hy) (alvP hy) (by rw [eL]; omega) rfl (by omega) (fun σ11 H11 k11 => ?_)
        refine zW_p 2 rfl ?_
        rw [eL] at k11
        exact zW_reti rfl rfl rfl ⟨rfl, ghx, gext.trans (gext_w gext_rfl (fun _ => Nat.le_refl _)) x8 (fun c => sn_w_le), H11, ((k9.trans k8).trans k11).mono (by omega) (by omega)⟩
      | false =>
        rw [if_neg (by decide)]
        refine zW_p 2 rfl ?_
        refine hW_new H rfl rfl rfl rfl rfl rfl (fun σ9 b9 H9 hb9 k9 => ?_)
        refine zW_p 3 rfl ?_
        obtain ⟨σ8, g8, ghx, x8, H8, k8⟩ := F_newBought (p := (sE S 21 0).length) (q := f) H9 hb9
        refine wI rfl rfl rfl rfl rfl rfl rfl rfl rfl g8 (by omega) ?_
        have hbx := x8.hat (S1 := kFBought (snw S 3 []) (sn S 3) (sE S 21 0).length f) le_kFBought hb9
        have hb8x := x8.hat (S1 := kFBought (snw S 3 []) (sn S 3) (sE S 21 0).length f) le_kFBought hb8.old
        have eL : sE (kFBought (snw S 3 []) (sn S 3) (sE S 21 0).length f) 21 0 = sE S 21 0 := rfl
        have hy : hat ghx (kFBought (snw S 3 []) (sn S 3) (sE S 21 0).length f) (2 + (2 * sn S 3 + 1) % 2) ((2 * sn S 3 + 1) / 2) b9 := by
          rw [show 2 + (2 * sn S 3 + 1) % 2 = 3 by omega, show (2 * sn S 3 + 1) / 2 = sn S 3 by omega]
          exact hbx
        refine hW_add (x := ((2 * sn S 3 + 1 : Nat) : Int)) H8 rfl rfl rfl hb8x rfl rfl rfl (elrepP hy) (alvP hy) (by rw [eL]; omega) rfl (by omega) (fun σ11 H11 k11 => ?_)
        refine zW_p 2 rfl ?_
        rw [eL] at k11
        exact zW_reti rfl rfl rfl ⟨rfl, ghx, gext.trans (gext_w gext_rfl (fun _ => Nat.le_refl _)) x8 (fun c => sn_w_le), H11, ((k9.trans k8).trans k11).mono (by omega) (by omega)⟩
  obtain ⟨o, σ', h1, rfl, h2⟩ := main
  exact ⟨σ', h1, h2⟩
end ZAP
