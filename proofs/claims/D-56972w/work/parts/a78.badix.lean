/-! Foundrymark: a bad index (printed by tools/gen78.py) -/
set_option maxRecDepth 100000
section ZGX
variable {g : zG} {w0 : hG} {σ : zS} {gh : Nat → Nat → Nat} {S : hS} {J : zw_W} {a : Nat} {v w : Int}
theorem F_holdX (H : hRep g w0 σ gh S J) (hF : fFix S) (ha : hat gh S 0 0 a) (hv : rg v) (hi : ¬ (0 ≤ v ∧ v < sn S 6)) : ∃ σ' : zS, zEnd g 4 88 [.ref a, iv v, iv w] σ (.inr "java/lang/IndexOutOfBoundsException") σ' ∧ hRep g w0 σ' gh S J ∧ kc σ σ' 1 6 := by
  have main : zW g 4 88 0 (lv_args 0 [.ref a, iv v, iv w]) [] σ (fun o σ' => o = .inr "java/lang/IndexOutOfBoundsException" ∧ hRep g w0 σ' gh S J ∧ kc σ σ' 1 6) := by
    refine zW_p 2 rfl ?_
    obtain ⟨σ1, g1, g2, g3⟩ := F_lotX H hF ha hv hi
    exact wVT rfl rfl rfl rfl rfl rfl rfl (H.rc ha rfl rfl) g1 (by omega) rfl ⟨rfl, g2, g3⟩
  obtain ⟨o, σ', h1, rfl, h2, h3⟩ := main
  exact ⟨σ', h1, h2, h3⟩
theorem F_measureX (H : hRep g w0 σ gh S J) (hF : fFix S) (ha : hat gh S 0 0 a) (hv : rg v) (hi : ¬ (0 ≤ v ∧ v < sn S 6)) : ∃ σ' : zS, zEnd g 4 96 [.ref a, iv v, iv w] σ (.inr "java/lang/IndexOutOfBoundsException") σ' ∧ hRep g w0 σ' gh S J ∧ kc σ σ' 1 6 := by
  have main : zW g 4 96 0 (lv_args 0 [.ref a, iv v, iv w]) [] σ (fun o σ' => o = .inr "java/lang/IndexOutOfBoundsException" ∧ hRep g w0 σ' gh S J ∧ kc σ σ' 1 6) := by
    refine zW_p 2 rfl ?_
    obtain ⟨σ1, g1, g2, g3⟩ := F_lotX H hF ha hv hi
    exact wVT rfl rfl rfl rfl rfl rfl rfl (H.rc ha rfl rfl) g1 (by omega) rfl ⟨rfl, g2, g3⟩
  obtain ⟨o, σ', h1, rfl, h2, h3⟩ := main
  exact ⟨σ', h1, h2, h3⟩
theorem F_promiseX (H : hRep g w0 σ gh S J) (hF : fFix S) (ha : hat gh S 0 0 a) (hv : rg v) (hi : ¬ (0 ≤ v ∧ v < sn S 8)) : ∃ σ' : zS, zEnd g 4 110 [.ref a, iv v] σ (.inr "java/lang/IndexOutOfBoundsException") σ' ∧ hRep g w0 σ' gh S J ∧ kc σ σ' 1 6 := by
  have main : zW g 4 110 0 (lv_args 0 [.ref a, iv v]) [] σ (fun o σ' => o = .inr "java/lang/IndexOutOfBoundsException" ∧ hRep g w0 σ' gh S J ∧ kc σ σ' 1 6) := by
    refine zW_p 2 rfl ?_
    obtain ⟨σ1, g1, g2, g3⟩ := F_theOrderX H hF ha hv hi
    exact wVT rfl rfl rfl rfl rfl rfl rfl (H.rc ha rfl rfl) g1 (by omega) rfl ⟨rfl, g2, g3⟩
  obtain ⟨o, σ', h1, rfl, h2, h3⟩ := main
  exact ⟨σ', h1, h2, h3⟩
theorem F_withdrawX (H : hRep g w0 σ gh S J) (hF : fFix S) (ha : hat gh S 0 0 a) (hv : rg v) (hi : ¬ (0 ≤ v ∧ v < sn S 8)) : ∃ σ' : zS, zEnd g 4 120 [.ref a, iv v] σ (.inr "java/lang/IndexOutOfBoundsException") σ' ∧ hRep g w0 σ' gh S J ∧ kc σ σ' 1 6 := by
  have main : zW g 4 120 0 (lv_args 0 [.ref a, iv v]) [] σ (fun o σ' => o = .inr "java/lang/IndexOutOfBoundsException" ∧ hRep g w0 σ' gh S J ∧ kc σ σ' 1 6) := by
    refine zW_p 2 rfl ?_
    obtain ⟨σ1, g1, g2, g3⟩ := F_theOrderX H hF ha hv hi
    exact wVT rfl rfl rfl rfl rfl rfl rfl (H.rc ha rfl rfl) g1 (by omega) rfl ⟨rfl, g2, g3⟩
  obtain ⟨o, σ', h1, rfl, h2, h3⟩ := main
  exact ⟨σ', h1, h2, h3⟩
theorem F_releaseX (H : hRep g w0 σ gh S J) (hF : fFix S) (ha : hat gh S 0 0 a) (hv : rg v) (hi : ¬ (0 ≤ v ∧ v < sn S 8)) : ∃ σ' : zS, zEnd g 4 122 [.ref a, iv v] σ (.inr "java/lang/IndexOutOfBoundsException") σ' ∧ hRep g w0 σ' gh S J ∧ kc σ σ' 1 6 := by
  have main : zW g 4 122 0 (lv_args 0 [.ref a, iv v]) [] σ (fun o σ' => o = .inr "java/lang/IndexOutOfBoundsException" ∧ hRep g w0 σ' gh S J ∧ kc σ σ' 1 6) := by
    refine zW_p 2 rfl ?_
    obtain ⟨σ1, g1, g2, g3⟩ := F_theOrderX H hF ha hv hi
    exact wVT rfl rfl rfl rfl rfl rfl rfl (H.rc ha rfl rfl) g1 (by omega) rfl ⟨rfl, g2, g3⟩
  obtain ⟨o, σ', h1, rfl, h2, h3⟩ := main
  exact ⟨σ', h1, h2, h3⟩
theorem F_scrapX (H : hRep g w0 σ gh S J) (hF : fFix S) (ha : hat gh S 0 0 a) (hv : rg v) (hi : ¬ (0 ≤ v ∧ v < sn S 8)) : ∃ σ' : zS, zEnd g 4 156 [.ref a, iv v, iv w] σ (.inr "java/lang/IndexOutOfBoundsException") σ' ∧ hRep g w0 σ' gh S J ∧ kc σ σ' 1 6 := by
  have main : zW g 4 156 0 (lv_args 0 [.ref a, iv v, iv w]) [] σ (fun o σ' => o = .inr "java/lang/IndexOutOfBoundsException" ∧ hRep g w0 σ' gh S J ∧ kc σ σ' 1 6) := by
    refine zW_p 2 rfl ?_
    obtain ⟨σ1, g1, g2, g3⟩ := F_theOrderX H hF ha hv hi
    exact wVT rfl rfl rfl rfl rfl rfl rfl (H.rc ha rfl rfl) g1 (by omega) rfl ⟨rfl, g2, g3⟩
  obtain ⟨o, σ', h1, rfl, h2, h3⟩ := main
  exact ⟨σ', h1, h2, h3⟩
theorem F_deliverX (H : hRep g w0 σ gh S J) (hF : fFix S) (ha : hat gh S 0 0 a) (hv : rg v) (hi : ¬ (0 ≤ v ∧ v < sn S 8)) : ∃ σ' : zS, zEnd g 4 162 [.ref a, iv v] σ (.inr "java/lang/IndexOutOfBoundsException") σ' ∧ hRep g w0 σ' gh S J ∧ kc σ σ' 1 6 := by
  have main : zW g 4 162 0 (lv_args 0 [.ref a, iv v]) [] σ (fun o σ' => o = .inr "java/lang/IndexOutOfBoundsException" ∧ hRep g w0 σ' gh S J ∧ kc σ σ' 1 6) := by
    refine zW_p 2 rfl ?_
    obtain ⟨σ1, g1, g2, g3⟩ := F_theOrderX H hF ha hv hi
    exact wVT rfl rfl rfl rfl rfl rfl rfl (H.rc ha rfl rfl) g1 (by omega) rfl ⟨rfl, g2, g3⟩
  obtain ⟨o, σ', h1, rfl, h2, h3⟩ := main
  exact ⟨σ', h1, h2, h3⟩
theorem F_lotOfX (H : hRep g w0 σ gh S J) (hF : fFix S) (ha : hat gh S 0 0 a) (hv : rg v) (hi : ¬ (0 ≤ v ∧ v < sn S 8)) : ∃ σ' : zS, zEnd g 4 170 [.ref a, iv v] σ (.inr "java/lang/IndexOutOfBoundsException") σ' ∧ hRep g w0 σ' gh S J ∧ kc σ σ' 1 6 := by
  have main : zW g 4 170 0 (lv_args 0 [.ref a, iv v]) [] σ (fun o σ' => o = .inr "java/lang/IndexOutOfBoundsException" ∧ hRep g w0 σ' gh S J ∧ kc σ σ' 1 6) := by
    refine zW_p 2 rfl ?_
    obtain ⟨σ1, g1, g2, g3⟩ := F_theOrderX H hF ha hv hi
    exact wVT rfl rfl rfl rfl rfl rfl rfl (H.rc ha rfl rfl) g1 (by omega) rfl ⟨rfl, g2, g3⟩
  obtain ⟨o, σ', h1, rfl, h2, h3⟩ := main
  exact ⟨σ', h1, h2, h3⟩
theorem F_finishedAtX (H : hRep g w0 σ gh S J) (hF : fFix S) (ha : hat gh S 0 0 a) (hv : rg v) (hi : ¬ (0 ≤ v ∧ v < sn S 8)) : ∃ σ' : zS, zEnd g 4 173 [.ref a, iv v] σ (.inr "java/lang/IndexOutOfBoundsException") σ' ∧ hRep g w0 σ' gh S J ∧ kc σ σ' 1 6 := by
  have main : zW g 4 173 0 (lv_args 0 [.ref a, iv v]) [] σ (fun o σ' => o = .inr "java/lang/IndexOutOfBoundsException" ∧ hRep g w0 σ' gh S J ∧ kc σ σ' 1 6) := by
    refine zW_p 2 rfl ?_
    obtain ⟨σ1, g1, g2, g3⟩ := F_theOrderX H hF ha hv hi
    exact wVT rfl rfl rfl rfl rfl rfl rfl (H.rc ha rfl rfl) g1 (by omega) rfl ⟨rfl, g2, g3⟩
  obtain ⟨o, σ', h1, rfl, h2, h3⟩ := main
  exact ⟨σ', h1, h2, h3⟩
theorem F_deliveredCostX (H : hRep g w0 σ gh S J) (hF : fFix S) (ha : hat gh S 0 0 a) (hv : rg v) (hi : ¬ (0 ≤ v ∧ v < sn S 8)) : ∃ σ' : zS, zEnd g 4 186 [.ref a, iv v] σ (.inr "java/lang/IndexOutOfBoundsException") σ' ∧ hRep g w0 σ' gh S J ∧ kc σ σ' 1 6 := by
  have main : zW g 4 186 0 (lv_args 0 [.ref a, iv v]) [] σ (fun o σ' => o = .inr "java/lang/IndexOutOfBoundsException" ∧ hRep g w0 σ' gh S J ∧ kc σ σ' 1 6) := by
    refine zW_p 2 rfl ?_
    obtain ⟨σ1, g1, g2, g3⟩ := F_theOrderX H hF ha hv hi
    exact wVT rfl rfl rfl rfl rfl rfl rfl (H.rc ha rfl rfl) g1 (by omega) rfl ⟨rfl, g2, g3⟩
  obtain ⟨o, σ', h1, rfl, h2, h3⟩ := main
  exact ⟨σ', h1, h2, h3⟩
theorem F_lotsInX (H : hRep g w0 σ gh S J) (hF : fFix S) (ha : hat gh S 0 0 a) (hv : rg v) (hi : ¬ (0 ≤ v ∧ v < sn S 8)) : ∃ σ' : zS, zEnd g 4 184 [.ref a, iv v] σ (.inr "java/lang/IndexOutOfBoundsException") σ' ∧ hRep g w0 σ' gh S J ∧ kc σ σ' 1 6 := by
  have main : zW g 4 184 0 (lv_args 0 [.ref a, iv v]) [] σ (fun o σ' => o = .inr "java/lang/IndexOutOfBoundsException" ∧ hRep g w0 σ' gh S J ∧ kc σ σ' 1 6) := by
    refine zW_p 3 rfl ?_
    obtain ⟨σ1, g1, g2, g3⟩ := F_theOrderX H hF ha hv hi
    exact wVT rfl rfl rfl rfl rfl rfl rfl (H.rc ha rfl rfl) g1 (by omega) rfl ⟨rfl, g2, g3⟩
  obtain ⟨o, σ', h1, rfl, h2, h3⟩ := main
  exact ⟨σ', h1, h2, h3⟩
theorem F_touchedX (H : hRep g w0 σ gh S J) (hF : fFix S) (ha : hat gh S 0 0 a) (hv : rg v) (hi : ¬ (0 ≤ v ∧ v < sn S 6)) : ∃ σ' : zS, zEnd g 4 19 [.ref a, iv v] σ (.inr "java/lang/IndexOutOfBoundsException") σ' ∧ hRep g w0 σ' gh S J ∧ kc σ σ' 1 6 := by
  have main : zW g 4 19 0 (lv_args 0 [.ref a, iv v]) [] σ (fun o σ' => o = .inr "java/lang/IndexOutOfBoundsException" ∧ hRep g w0 σ' gh S J ∧ kc σ σ' 1 6) := by
    refine zW_p 2 rfl ?_
    obtain ⟨σ1, g1, g2, g3⟩ := F_lotX H hF ha hv hi
    exact wVT rfl rfl rfl rfl rfl rfl rfl (H.rc ha rfl rfl) g1 (by omega) rfl ⟨rfl, g2, g3⟩
  obtain ⟨o, σ', h1, rfl, h2, h3⟩ := main
  exact ⟨σ', h1, h2, h3⟩
theorem F_isInX (H : hRep g w0 σ gh S J) (hF : fFix S) (ha : hat gh S 0 0 a) (hv : rg v) (hi : ¬ (0 ≤ v ∧ v < sn S 6)) : ∃ σ' : zS, zEnd g 4 181 [.ref a, iv v, iv w] σ (.inr "java/lang/IndexOutOfBoundsException") σ' ∧ hRep g w0 σ' gh S J ∧ kc σ σ' 1 6 := by
  have main : zW g 4 181 0 (lv_args 0 [.ref a, iv v, iv w]) [] σ (fun o σ' => o = .inr "java/lang/IndexOutOfBoundsException" ∧ hRep g w0 σ' gh S J ∧ kc σ σ' 1 6) := by
    refine zW_p 2 rfl ?_
    obtain ⟨σ1, g1, g2, g3⟩ := F_lotX H hF ha hv hi
    exact wVT rfl rfl rfl rfl rfl rfl rfl (H.rc ha rfl rfl) g1 (by omega) rfl ⟨rfl, g2, g3⟩
  obtain ⟨o, σ', h1, rfl, h2, h3⟩ := main
  exact ⟨σ', h1, h2, h3⟩
theorem F_isInY {x : Nat} (H : hRep g w0 σ gh S J) (hF : fFix S) (ha : hat gh S 0 0 a) (hx : x < sn S 6) (hv : rg v) (hi : ¬ (0 ≤ v ∧ v < sn S 6)) : ∃ σ' : zS, zEnd g 4 181 [.ref a, iv x, iv v] σ (.inr "java/lang/IndexOutOfBoundsException") σ' ∧ hRep g w0 σ' gh S J ∧ kc σ σ' 1 6 := by
  have main : zW g 4 181 0 (lv_args 0 [.ref a, iv x, iv v]) [] σ (fun o σ' => o = .inr "java/lang/IndexOutOfBoundsException" ∧ hRep g w0 σ' gh S J ∧ kc σ σ' 1 6) := by
    refine zW_p 2 rfl ?_
    obtain ⟨b, hb, g0⟩ := F_lot H hF ha hx
    refine wV rfl rfl rfl rfl rfl rfl rfl (H.rc ha rfl rfl) g0 (by omega) ?_
    refine zW_p 3 rfl ?_
    obtain ⟨σ1, g1, g2, g3⟩ := F_lotX H hF ha hv hi
    exact wVT rfl rfl rfl rfl rfl rfl rfl (H.rc ha rfl rfl) g1 (by omega) rfl ⟨rfl, g2, g3⟩
  obtain ⟨o, σ', h1, rfl, h2, h3⟩ := main
  exact ⟨σ', h1, h2, h3⟩
end ZGX
