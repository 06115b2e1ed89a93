/-! The model's machineIs, waiting -/
set_option maxRecDepth 100000
section ZMW
variable {g : zG} {w0 : hG} {σ : zS} {gh : Nat → Nat → Nat} {S : hS} {J : zw_W} {a : Nat} {v : Int}
theorem M_machineIs (H : hRep g w0 σ gh S J) (hF : mFix S) (hM : mMach S) (ha : hat gh S 11 0 a) (hv : rg v) : ∃ σ' : zS, zEnd g 4 249 [.ref a, iv v] σ (.inl (some (iv (if 0 ≤ v ∧ v < sn S 12 then sT S 12 6 v.toNat else 0)))) σ' ∧ hRep g w0 σ' gh (mt S (bi (!decide (0 ≤ v ∧ v < sn S 12)))) J ∧ kc σ σ' 0 0 := by
  obtain ⟨σ1, g1, g2, g3⟩ := M_failsMachine H hF ha hv
  obtain ⟨f0, f1, f2, f3, f4, f5, f6, f7, f8, f9, fa, fb, fc, fd, fe⟩ := hF
  have main : zW g 4 249 0 (lv_args 0 [.ref a, iv v]) [] σ (fun o σ' => o = .inl (some (iv (if 0 ≤ v ∧ v < sn S 12 then sT S 12 6 v.toNat else 0))) ∧ hRep g w0 σ' gh (mt S (bi (!decide (0 ≤ v ∧ v < sn S 12)))) J ∧ kc σ σ' 0 0) := by
    refine zW_p 2 rfl ?_
    refine wV rfl rfl rfl rfl rfl rfl rfl (H.rc ha rfl rfl) g1 (by omega) ?_
    by_cases hc : 0 ≤ v ∧ v < sn S 12
    · rw [decide_eq_true hc] at g2 ⊢
      rw [if_pos hc]
      obtain ⟨i, rfl⟩ : ∃ i : Nat, v = i := ⟨v.toNat, (Int.toNat_of_nonneg hc.1).symm⟩
      refine zW_p 2 rfl ?_
      refine hW_getr g2 rfl ha rfl rfl rfl f1 (fun b2 hb2 => ?_)
      refine zW_p 1 rfl ?_
      refine hW_lget (y := i) g2 rfl rfl rfl hb2 rfl rfl rfl (by rw [sE_set, f7]; exact idl_at (by omega)) rfl (by omega) (fun b3 hb3 => ?_)
      refine hW_cast g2 rfl hb3 rfl rfl rfl ?_
      refine hW_get g2 rfl hb3 rfl rfl rfl ?_
      rw [Int.toNat_natCast]
      have w1 := hM i (by omega)
      have e : sT (mt S (bi (!true))) 12 6 i = sT S 12 6 i := rfl
      rw [e]
      exact zW_reti rfl rfl (by rcases w1 with e | e | e <;> rw [e] <;> rfl) ⟨rfl, g2, kc.of g3⟩
    · rw [decide_eq_false hc] at g2 ⊢
      rw [if_neg hc]
      refine zW_p 3 rfl ?_
      exact zW_reti rfl rfl rfl ⟨rfl, g2, kc.of g3⟩
  obtain ⟨o, σ', h1, rfl, h2, h3⟩ := main
  exact ⟨σ', h1, h2, h3⟩
theorem M_waiting (H : hRep g w0 σ gh S J) (hF : mFix S) (hO : mOrd S) (ha : hat gh S 11 0 a) (hv : rg v) : ∃ σ' : zS, zEnd g 4 252 [.ref a, iv v] σ (.inl (some (iv (if 0 ≤ v ∧ v < sn S 12 then (mWc S v (sn S 15) : Nat) else 0)))) σ' ∧ hRep g w0 σ' gh (mt S (bi (!decide (0 ≤ v ∧ v < sn S 12)))) J ∧ kc σ σ' 1 4 := by
  obtain ⟨σ1, g1, g2, g3⟩ := M_failsMachine H hF ha hv
  have main : zW g 4 252 0 (lv_args 0 [.ref a, iv v]) [] σ (fun o σ' => o = .inl (some (iv (if 0 ≤ v ∧ v < sn S 12 then (mWc S v (sn S 15) : Nat) else 0))) ∧ hRep g w0 σ' gh (mt S (bi (!decide (0 ≤ v ∧ v < sn S 12)))) J ∧ kc σ σ' 1 4) := by
    refine zW_p 2 rfl ?_
    refine wV rfl rfl rfl rfl rfl rfl rfl (H.rc ha rfl rfl) g1 (by omega) ?_
    by_cases hc : 0 ≤ v ∧ v < sn S 12
    · rw [decide_eq_true hc] at g2 ⊢
      rw [if_pos hc]
      refine zW_p 3 rfl ?_
      obtain ⟨σ2, h1, h2, h3⟩ := M_waits (v := v) g2 (show mFix (mt S _) from hF) (show mOrd (mt S _) from hO) ha hv
      have e : mWc (mt S (bi (!true))) v (sn (mt S (bi (!true))) 15) = mWc S v (sn S 15) := rfl
      rw [e] at h1
      refine wV rfl rfl rfl rfl rfl rfl rfl (g2.rc (show hat gh (mt S _) 11 0 a from ha) rfl rfl) h1 (by omega) ?_
      exact zW_reti rfl rfl rfl ⟨rfl, h2, ((kc.of g3).trans h3).mono (by omega) (by omega)⟩
    · rw [decide_eq_false hc] at g2 ⊢
      rw [if_neg hc]
      refine zW_p 3 rfl ?_
      exact zW_reti rfl rfl rfl ⟨rfl, g2, (kc.of g3).mono (by omega) (by omega)⟩
  obtain ⟨o, σ', h1, rfl, h2, h3⟩ := main
  exact ⟨σ', h1, h2, h3⟩
end ZMW
