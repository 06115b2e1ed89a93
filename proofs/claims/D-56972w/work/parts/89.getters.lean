/-! GETTERS of both classes -/
set_option maxRecDepth 100000
/-- the model's 'thrown' set -/
abbrev mt (S : hS) (v : Int) : hS := sset S 11 0 0 v
section ZGT
variable {g : zG} {w0 : hG} {σ : zS} {gh : Nat → Nat → Nat} {S : hS} {J : zw_W} {a : Nat} {v : Int}
theorem M_isPart (H : hRep g w0 σ gh S J) (hF : mFix S) (ha : hat gh S 11 0 a) (hv : rg v) : zEnd g 1 203 [.ref a, iv v] σ (.inl (some (iv (bi (decide (0 ≤ v ∧ v < sn S 13)))))) σ := by
  obtain ⟨f0, f1, f2, f3, f4, f5, f6, f7, f8, f9, fa, fb, fc, fd, fe⟩ := hF
  refine zEnd_of ?_
  refine zW_p 3 rfl ?_
  refine hW_getr H rfl ha rfl rfl rfl f2 (fun b1 hb1 => ?_)
  refine hW_size H rfl rfl rfl hb1 rfl rfl rfl (by omega) ?_
  rw [f8, idl_len]
  refine zW_p 2 rfl ?_
  rw [I_sub]
  refine wS rfl rfl rfl rfl rfl rfl rfl rfl rfl (M_in hv ⟨by omega, by omega⟩ ⟨by omega, by omega⟩) (by omega) ?_
  have e : decide (0 ≤ v ∧ v ≤ (((sn S 13) : Nat) : Int) - 1) = decide (0 ≤ v ∧ v < sn S 13) := decide_eq_decide.mpr (by omega)
  rw [e]
  exact zW_reti rfl rfl (by cases decide (0 ≤ v ∧ v < sn S 13) <;> rfl) ⟨rfl, rfl⟩
theorem M_isMachine (H : hRep g w0 σ gh S J) (hF : mFix S) (ha : hat gh S 11 0 a) (hv : rg v) : zEnd g 1 205 [.ref a, iv v] σ (.inl (some (iv (bi (decide (0 ≤ v ∧ v < sn S 12)))))) σ := by
  obtain ⟨f0, f1, f2, f3, f4, f5, f6, f7, f8, f9, fa, fb, fc, fd, fe⟩ := hF
  refine zEnd_of ?_
  refine zW_p 3 rfl ?_
  refine hW_getr H rfl ha rfl rfl rfl f1 (fun b1 hb1 => ?_)
  refine hW_size H rfl rfl rfl hb1 rfl rfl rfl (by omega) ?_
  rw [f7, idl_len]
  refine zW_p 2 rfl ?_
  rw [I_sub]
  refine wS rfl rfl rfl rfl rfl rfl rfl rfl rfl (M_in hv ⟨by omega, by omega⟩ ⟨by omega, by omega⟩) (by omega) ?_
  have e : decide (0 ≤ v ∧ v ≤ (((sn S 12) : Nat) : Int) - 1) = decide (0 ≤ v ∧ v < sn S 12) := decide_eq_decide.mpr (by omega)
  rw [e]
  exact zW_reti rfl rfl (by cases decide (0 ≤ v ∧ v < sn S 12) <;> rfl) ⟨rfl, rfl⟩
theorem M_failsLot (H : hRep g w0 σ gh S J) (hF : mFix S) (ha : hat gh S 11 0 a) (hv : rg v) : ∃ σ' : zS, zEnd g 1 212 [.ref a, iv v] σ (.inl (some (iv (bi (!decide (0 ≤ v ∧ v < sn S 14)))))) σ' ∧ hRep g w0 σ' gh (mt S (bi (!decide (0 ≤ v ∧ v < sn S 14)))) J ∧ σ'.2 = σ.2 := by
  obtain ⟨f0, f1, f2, f3, f4, f5, f6, f7, f8, f9, fa, fb, fc, fd, fe⟩ := hF
  have main : zW g 1 212 0 (lv_args 0 [.ref a, iv v]) [] σ (fun o σ' => o = .inl (some (iv (bi (!decide (0 ≤ v ∧ v < sn S 14))))) ∧ hRep g w0 σ' gh (mt S (bi (!decide (0 ≤ v ∧ v < sn S 14)))) J ∧ σ'.2 = σ.2) := by
    refine zW_p 4 rfl ?_
    refine hW_getr H rfl ha rfl rfl rfl f3 (fun b1 hb1 => ?_)
    refine hW_size H rfl rfl rfl hb1 rfl rfl rfl (by omega) ?_
    rw [f9, idl_len]
    refine zW_p 2 rfl ?_
    rw [I_sub]
    refine wS rfl rfl rfl rfl rfl rfl rfl rfl rfl (M_in hv ⟨by omega, by omega⟩ ⟨by omega, by omega⟩) (by omega) ?_
    by_cases hc : 0 ≤ v ∧ v < sn S 14
    · rw [decide_eq_true (show 0 ≤ v ∧ v ≤ (((sn S 14) : Nat) : Int) - 1 by omega), decide_eq_true hc]
      obtain ⟨σ1, g1, g2, g3⟩ := M_fails (v := 0) H ha ⟨by decide, by decide⟩
      refine zW_p 3 rfl ?_
      refine wV rfl rfl rfl rfl rfl rfl rfl (H.rc ha rfl rfl) g1 (by omega) ?_
      exact zW_reti rfl rfl rfl ⟨rfl, g2, g3⟩
    · rw [decide_eq_false (show ¬ (0 ≤ v ∧ v ≤ (((sn S 14) : Nat) : Int) - 1) by omega), decide_eq_false hc]
      obtain ⟨σ1, g1, g2, g3⟩ := M_fails (v := 1) H ha ⟨by decide, by decide⟩
      refine zW_p 2 rfl ?_
      refine wV rfl rfl rfl rfl rfl rfl rfl (H.rc ha rfl rfl) g1 (by omega) ?_
      exact zW_reti rfl rfl rfl ⟨rfl, g2, g3⟩
  obtain ⟨o, σ', h1, rfl, h2, h3⟩ := main
  exact ⟨σ', h1, h2, h3⟩
theorem M_failsOrder (H : hRep g w0 σ gh S J) (hF : mFix S) (ha : hat gh S 11 0 a) (hv : rg v) : ∃ σ' : zS, zEnd g 1 228 [.ref a, iv v] σ (.inl (some (iv (bi (!decide (0 ≤ v ∧ v < sn S 15)))))) σ' ∧ hRep g w0 σ' gh (mt S (bi (!decide (0 ≤ v ∧ v < sn S 15)))) J ∧ σ'.2 = σ.2 := by
  obtain ⟨f0, f1, f2, f3, f4, f5, f6, f7, f8, f9, fa, fb, fc, fd, fe⟩ := hF
  have main : zW g 1 228 0 (lv_args 0 [.ref a, iv v]) [] σ (fun o σ' => o = .inl (some (iv (bi (!decide (0 ≤ v ∧ v < sn S 15))))) ∧ hRep g w0 σ' gh (mt S (bi (!decide (0 ≤ v ∧ v < sn S 15)))) J ∧ σ'.2 = σ.2) := by
    refine zW_p 4 rfl ?_
    refine hW_getr H rfl ha rfl rfl rfl f4 (fun b1 hb1 => ?_)
    refine hW_size H rfl rfl rfl hb1 rfl rfl rfl (by omega) ?_
    rw [fa, idl_len]
    refine zW_p 2 rfl ?_
    rw [I_sub]
    refine wS rfl rfl rfl rfl rfl rfl rfl rfl rfl (M_in hv ⟨by omega, by omega⟩ ⟨by omega, by omega⟩) (by omega) ?_
    by_cases hc : 0 ≤ v ∧ v < sn S 15
    · rw [decide_eq_true (show 0 ≤ v ∧ v ≤ (((sn S 15) : Nat) : Int) - 1 by omega), decide_eq_true hc]
      obtain ⟨σ1, g1, g2, g3⟩ := M_fails (v := 0) H ha ⟨by decide, by decide⟩
      refine zW_p 3 rfl ?_
      refine wV rfl rfl rfl rfl rfl rfl rfl (H.rc ha rfl rfl) g1 (by omega) ?_
      exact zW_reti rfl rfl rfl ⟨rfl, g2, g3⟩
    · rw [decide_eq_false (show ¬ (0 ≤ v ∧ v ≤ (((sn S 15) : Nat) : Int) - 1) by omega), decide_eq_false hc]
      obtain ⟨σ1, g1, g2, g3⟩ := M_fails (v := 1) H ha ⟨by decide, by decide⟩
      refine zW_p 2 rfl ?_
      refine wV rfl rfl rfl rfl rfl rfl rfl (H.rc ha rfl rfl) g1 (by omega) ?_
      exact zW_reti rfl rfl rfl ⟨rfl, g2, g3⟩
  obtain ⟨o, σ', h1, rfl, h2, h3⟩ := main
  exact ⟨σ', h1, h2, h3⟩
theorem M_failsMachine (H : hRep g w0 σ gh S J) (hF : mFix S) (ha : hat gh S 11 0 a) (hv : rg v) : ∃ σ' : zS, zEnd g 2 250 [.ref a, iv v] σ (.inl (some (iv (bi (!decide (0 ≤ v ∧ v < sn S 12)))))) σ' ∧ hRep g w0 σ' gh (mt S (bi (!decide (0 ≤ v ∧ v < sn S 12)))) J ∧ σ'.2 = σ.2 := by
  have main : zW g 2 250 0 (lv_args 0 [.ref a, iv v]) [] σ (fun o σ' => o = .inl (some (iv (bi (!decide (0 ≤ v ∧ v < sn S 12))))) ∧ hRep g w0 σ' gh (mt S (bi (!decide (0 ≤ v ∧ v < sn S 12)))) J ∧ σ'.2 = σ.2) := by
    refine zW_p 3 rfl ?_
    refine wV rfl rfl rfl rfl rfl rfl rfl (H.rc ha rfl rfl) (M_isMachine H hF ha hv) (by omega) ?_
    by_cases hc : 0 ≤ v ∧ v < sn S 12
    · rw [decide_eq_true hc]
      obtain ⟨σ1, g1, g2, g3⟩ := M_fails (v := 0) H ha ⟨by decide, by decide⟩
      refine zW_p 3 rfl ?_
      refine wV rfl rfl rfl rfl rfl rfl rfl (H.rc ha rfl rfl) g1 (by omega) ?_
      exact zW_reti rfl rfl rfl ⟨rfl, g2, g3⟩
    · rw [decide_eq_false hc]
      obtain ⟨σ1, g1, g2, g3⟩ := M_fails (v := 1) H ha ⟨by decide, by decide⟩
      refine zW_p 2 rfl ?_
      refine wV rfl rfl rfl rfl rfl rfl rfl (H.rc ha rfl rfl) g1 (by omega) ?_
      exact zW_reti rfl rfl rfl ⟨rfl, g2, g3⟩
  obtain ⟨o, σ', h1, rfl, h2, h3⟩ := main
  exact ⟨σ', h1, h2, h3⟩
theorem mFix_mt {v : Int} (h : mFix S) : mFix (mt S v) := h
theorem M_partOf (H : hRep g w0 σ gh S J) (hF : mFix S) (ha : hat gh S 11 0 a) (hv : rg v) : ∃ σ' : zS, zEnd g 4 221 [.ref a, iv v] σ (.inl (some (iv (if 0 ≤ v ∧ v < sn S 14 then sT S 14 1 v.toNat else 0)))) σ' ∧ hRep g w0 σ' gh (mt S (bi (!decide (0 ≤ v ∧ v < sn S 14)))) J ∧ σ'.2 = σ.2 := by
  obtain ⟨σ1, g1, g2, g3⟩ := M_failsLot H hF ha hv
  obtain ⟨f0, f1, f2, f3, f4, f5, f6, f7, f8, f9, fa, fb, fc, fd, fe⟩ := hF
  have main : zW g 4 221 0 (lv_args 0 [.ref a, iv v]) [] σ (fun o σ' => o = .inl (some (iv (if 0 ≤ v ∧ v < sn S 14 then sT S 14 1 v.toNat else 0))) ∧ hRep g w0 σ' gh (mt S (bi (!decide (0 ≤ v ∧ v < sn S 14)))) J ∧ σ'.2 = σ.2) := by
    refine zW_p 2 rfl ?_
    refine wV rfl rfl rfl rfl rfl rfl rfl (H.rc ha rfl rfl) g1 (by omega) ?_
    by_cases hc : 0 ≤ v ∧ v < sn S 14
    · rw [decide_eq_true hc] at g2 ⊢
      rw [if_pos hc]
      obtain ⟨i, rfl⟩ : ∃ i : Nat, v = i := ⟨v.toNat, (Int.toNat_of_nonneg hc.1).symm⟩
      refine zW_p 2 rfl ?_
      refine hW_getr g2 rfl ha rfl rfl rfl f3 (fun b2 hb2 => ?_)
      refine zW_p 1 rfl ?_
      refine hW_lget (y := i) g2 rfl rfl rfl hb2 rfl rfl rfl (by rw [sE_set, f9]; exact idl_at (by omega)) rfl (by omega) (fun b3 hb3 => ?_)
      refine hW_cast g2 rfl hb3 rfl rfl rfl ?_
      refine hW_get g2 rfl hb3 rfl rfl rfl ?_
      rw [Int.toNat_natCast]
      exact zW_reti rfl rfl rfl ⟨rfl, g2, g3⟩
    · rw [decide_eq_false hc] at g2 ⊢
      rw [if_neg hc]
      refine zW_p 3 rfl ?_
      exact zW_reti rfl rfl rfl ⟨rfl, g2, g3⟩
  obtain ⟨o, σ', h1, rfl, h2, h3⟩ := main
  exact ⟨σ', h1, h2, h3⟩
theorem M_rest (H : hRep g w0 σ gh S J) (hF : mFix S) (ha : hat gh S 11 0 a) (hv : rg v) : ∃ σ' : zS, zEnd g 4 222 [.ref a, iv v] σ (.inl (some (iv (if 0 ≤ v ∧ v < sn S 14 then sT S 14 2 v.toNat else 0)))) σ' ∧ hRep g w0 σ' gh (mt S (bi (!decide (0 ≤ v ∧ v < sn S 14)))) J ∧ σ'.2 = σ.2 := by
  obtain ⟨σ1, g1, g2, g3⟩ := M_failsLot H hF ha hv
  obtain ⟨f0, f1, f2, f3, f4, f5, f6, f7, f8, f9, fa, fb, fc, fd, fe⟩ := hF
  have main : zW g 4 222 0 (lv_args 0 [.ref a, iv v]) [] σ (fun o σ' => o = .inl (some (iv (if 0 ≤ v ∧ v < sn S 14 then sT S 14 2 v.toNat else 0))) ∧ hRep g w0 σ' gh (mt S (bi (!decide (0 ≤ v ∧ v < sn S 14)))) J ∧ σ'.2 = σ.2) := by
    refine zW_p 2 rfl ?_
    refine wV rfl rfl rfl rfl rfl rfl rfl (H.rc ha rfl rfl) g1 (by omega) ?_
    by_cases hc : 0 ≤ v ∧ v < sn S 14
    · rw [decide_eq_true hc] at g2 ⊢
      rw [if_pos hc]
      obtain ⟨i, rfl⟩ : ∃ i : Nat, v = i := ⟨v.toNat, (Int.toNat_of_nonneg hc.1).symm⟩
      refine zW_p 2 rfl ?_
      refine hW_getr g2 rfl ha rfl rfl rfl f3 (fun b2 hb2 => ?_)
      refine zW_p 1 rfl ?_
      refine hW_lget (y := i) g2 rfl rfl rfl hb2 rfl rfl rfl (by rw [sE_set, f9]; exact idl_at (by omega)) rfl (by omega) (fun b3 hb3 => ?_)
      refine hW_cast g2 rfl hb3 rfl rfl rfl ?_
      refine hW_get g2 rfl hb3 rfl rfl rfl ?_
      rw [Int.toNat_natCast]
      exact zW_reti rfl rfl rfl ⟨rfl, g2, g3⟩
    · rw [decide_eq_false hc] at g2 ⊢
      rw [if_neg hc]
      refine zW_p 3 rfl ?_
      exact zW_reti rfl rfl rfl ⟨rfl, g2, g3⟩
  obtain ⟨o, σ', h1, rfl, h2, h3⟩ := main
  exact ⟨σ', h1, h2, h3⟩
theorem M_reserved (H : hRep g w0 σ gh S J) (hF : mFix S) (ha : hat gh S 11 0 a) (hv : rg v) : ∃ σ' : zS, zEnd g 4 223 [.ref a, iv v] σ (.inl (some (iv (if 0 ≤ v ∧ v < sn S 14 then sT S 14 3 v.toNat else 0)))) σ' ∧ hRep g w0 σ' gh (mt S (bi (!decide (0 ≤ v ∧ v < sn S 14)))) J ∧ σ'.2 = σ.2 := by
  obtain ⟨σ1, g1, g2, g3⟩ := M_failsLot H hF ha hv
  obtain ⟨f0, f1, f2, f3, f4, f5, f6, f7, f8, f9, fa, fb, fc, fd, fe⟩ := hF
  have main : zW g 4 223 0 (lv_args 0 [.ref a, iv v]) [] σ (fun o σ' => o = .inl (some (iv (if 0 ≤ v ∧ v < sn S 14 then sT S 14 3 v.toNat else 0))) ∧ hRep g w0 σ' gh (mt S (bi (!decide (0 ≤ v ∧ v < sn S 14)))) J ∧ σ'.2 = σ.2) := by
    refine zW_p 2 rfl ?_
    refine wV rfl rfl rfl rfl rfl rfl rfl (H.rc ha rfl rfl) g1 (by omega) ?_
    by_cases hc : 0 ≤ v ∧ v < sn S 14
    · rw [decide_eq_true hc] at g2 ⊢
      rw [if_pos hc]
      obtain ⟨i, rfl⟩ : ∃ i : Nat, v = i := ⟨v.toNat, (Int.toNat_of_nonneg hc.1).symm⟩
      refine zW_p 2 rfl ?_
      refine hW_getr g2 rfl ha rfl rfl rfl f3 (fun b2 hb2 => ?_)
      refine zW_p 1 rfl ?_
      refine hW_lget (y := i) g2 rfl rfl rfl hb2 rfl rfl rfl (by rw [sE_set, f9]; exact idl_at (by omega)) rfl (by omega) (fun b3 hb3 => ?_)
      refine hW_cast g2 rfl hb3 rfl rfl rfl ?_
      refine hW_get g2 rfl hb3 rfl rfl rfl ?_
      rw [Int.toNat_natCast]
      exact zW_reti rfl rfl rfl ⟨rfl, g2, g3⟩
    · rw [decide_eq_false hc] at g2 ⊢
      rw [if_neg hc]
      refine zW_p 3 rfl ?_
      exact zW_reti rfl rfl rfl ⟨rfl, g2, g3⟩
  obtain ⟨o, σ', h1, rfl, h2, h3⟩ := main
  exact ⟨σ', h1, h2, h3⟩
theorem M_costOf (H : hRep g w0 σ gh S J) (hF : mFix S) (ha : hat gh S 11 0 a) (hv : rg v) : ∃ σ' : zS, zEnd g 4 224 [.ref a, iv v] σ (.inl (some (.long (Int64.ofInt (if 0 ≤ v ∧ v < sn S 14 then sT S 14 4 v.toNat else 0))))) σ' ∧ hRep g w0 σ' gh (mt S (bi (!decide (0 ≤ v ∧ v < sn S 14)))) J ∧ σ'.2 = σ.2 := by
  obtain ⟨σ1, g1, g2, g3⟩ := M_failsLot H hF ha hv
  obtain ⟨f0, f1, f2, f3, f4, f5, f6, f7, f8, f9, fa, fb, fc, fd, fe⟩ := hF
  have main : zW g 4 224 0 (lv_args 0 [.ref a, iv v]) [] σ (fun o σ' => o = .inl (some (.long (Int64.ofInt (if 0 ≤ v ∧ v < sn S 14 then sT S 14 4 v.toNat else 0)))) ∧ hRep g w0 σ' gh (mt S (bi (!decide (0 ≤ v ∧ v < sn S 14)))) J ∧ σ'.2 = σ.2) := by
    refine zW_p 2 rfl ?_
    refine wV rfl rfl rfl rfl rfl rfl rfl (H.rc ha rfl rfl) g1 (by omega) ?_
    by_cases hc : 0 ≤ v ∧ v < sn S 14
    · rw [decide_eq_true hc] at g2 ⊢
      rw [if_pos hc]
      obtain ⟨i, rfl⟩ : ∃ i : Nat, v = i := ⟨v.toNat, (Int.toNat_of_nonneg hc.1).symm⟩
      refine zW_p 2 rfl ?_
      refine hW_getr g2 rfl ha rfl rfl rfl f3 (fun b2 hb2 => ?_)
      refine zW_p 1 rfl ?_
      refine hW_lget (y := i) g2 rfl rfl rfl hb2 rfl rfl rfl (by rw [sE_set, f9]; exact idl_at (by omega)) rfl (by omega) (fun b3 hb3 => ?_)
      refine hW_cast g2 rfl hb3 rfl rfl rfl ?_
      refine hW_get g2 rfl hb3 rfl rfl rfl ?_
      rw [Int.toNat_natCast]
      exact wW_ret rfl rfl rfl rfl ⟨rfl, g2, g3⟩
    · rw [decide_eq_false hc] at g2 ⊢
      rw [if_neg hc]
      refine zW_p 3 rfl ?_
      exact wW_ret rfl rfl rfl rfl ⟨rfl, g2, g3⟩
  obtain ⟨o, σ', h1, rfl, h2, h3⟩ := main
  exact ⟨σ', h1, h2, h3⟩
theorem M_wear (H : hRep g w0 σ gh S J) (hF : mFix S) (ha : hat gh S 11 0 a) (hv : rg v) : ∃ σ' : zS, zEnd g 4 251 [.ref a, iv v] σ (.inl (some (iv (if 0 ≤ v ∧ v < sn S 12 then sT S 12 5 v.toNat else 0)))) σ' ∧ hRep g w0 σ' gh (mt S (bi (!decide (0 ≤ v ∧ v < sn S 12)))) J ∧ σ'.2 = σ.2 := by
  obtain ⟨σ1, g1, g2, g3⟩ := M_failsMachine H hF ha hv
  obtain ⟨f0, f1, f2, f3, f4, f5, f6, f7, f8, f9, fa, fb, fc, fd, fe⟩ := hF
  have main : zW g 4 251 0 (lv_args 0 [.ref a, iv v]) [] σ (fun o σ' => o = .inl (some (iv (if 0 ≤ v ∧ v < sn S 12 then sT S 12 5 v.toNat else 0))) ∧ hRep g w0 σ' gh (mt S (bi (!decide (0 ≤ v ∧ v < sn S 12)))) J ∧ σ'.2 = σ.2) := by
    refine zW_p 2 rfl ?_
    refine wV rfl rfl rfl rfl rfl rfl rfl (H.rc ha rfl rfl) g1 (by omega) ?_
    by_cases hc : 0 ≤ v ∧ v < sn S 12
    · rw [decide_eq_true hc] at g2 ⊢
      rw [if_pos hc]
      obtain ⟨i, rfl⟩ : ∃ i : Nat, v = i := ⟨v.toNat, (Int.toNat_of_nonneg hc.1).symm⟩
      refine zW_p 2 rfl ?_
      refine hW_getr g2 rfl ha rfl rfl rfl f1 (fun b2 hb2 => ?_)
      refine zW_p 1 rfl ?_
      refine hW_lget (y := i) g2 rfl rfl rfl hb2 rfl rfl rfl (by rw [sE_set, f7]; exact idl_at (by omega)) rfl (by omega) (fun b3 hb3 => ?_)
      refine hW_cast g2 rfl hb3 rfl rfl rfl ?_
      refine hW_get g2 rfl hb3 rfl rfl rfl ?_
      rw [Int.toNat_natCast]
      exact zW_reti rfl rfl rfl ⟨rfl, g2, g3⟩
    · rw [decide_eq_false hc] at g2 ⊢
      rw [if_neg hc]
      refine zW_p 3 rfl ?_
      exact zW_reti rfl rfl rfl ⟨rfl, g2, g3⟩
  obtain ⟨o, σ', h1, rfl, h2, h3⟩ := main
  exact ⟨σ', h1, h2, h3⟩
theorem M_lots (H : hRep g w0 σ gh S J) (hF : mFix S) (ha : hat gh S 11 0 a) : ∃ σ' : zS, zEnd g 1 220 [.ref a] σ (.inl (some (iv (sn S 14)))) σ' ∧ hRep g w0 σ' gh (mt S 0) J ∧ σ'.2 = σ.2 := by
  obtain ⟨f0, f1, f2, f3, f4, f5, f6, f7, f8, f9, fa, fb, fc, fd, fe⟩ := hF
  have main : zW g 1 220 0 (lv_args 0 [.ref a]) [] σ (fun o σ' => o = .inl (some (iv (sn S 14))) ∧ hRep g w0 σ' gh (mt S 0) J ∧ σ'.2 = σ.2) := by
    refine zW_p 2 rfl ?_
    refine hW_put H rfl ha rfl rfl rfl (Or.inl rfl) rfl rfl (show Value.int (Int32.ofInt 0) = conv gh 0 0 from rfl) alv0 (fun e => absurd e (by decide)) (fun σ1 H1 e1 => ?_)
    refine zW_p 1 rfl ?_
    refine hW_getr H1 rfl ha rfl rfl rfl f3 (fun b2 hb2 => ?_)
    refine hW_size H1 rfl rfl rfl hb2 rfl rfl rfl (by omega) ?_
    rw [sE_set, f9, idl_len]
    exact zW_reti rfl rfl rfl ⟨rfl, H1, e1⟩
  obtain ⟨o, σ', h1, rfl, h2, h3⟩ := main
  exact ⟨σ', h1, h2, h3⟩
theorem M_isSound (H : hRep g w0 σ gh S J) (ha : hat gh S 11 0 a) : ∃ σ' : zS, zEnd g 0 261 [.ref a] σ (.inl (some (iv 1))) σ' ∧ hRep g w0 σ' gh (mt S 0) J ∧ σ'.2 = σ.2 := by
  have main : zW g 0 261 0 (lv_args 0 [.ref a]) [] σ (fun o σ' => o = .inl (some (iv 1)) ∧ hRep g w0 σ' gh (mt S 0) J ∧ σ'.2 = σ.2) := by
    refine zW_p 2 rfl ?_
    refine hW_put H rfl ha rfl rfl rfl (Or.inl rfl) rfl rfl (show Value.int (Int32.ofInt 0) = conv gh 0 0 from rfl) alv0 (fun e => absurd e (by decide)) (fun σ1 H1 e1 => ?_)
    refine zW_p 1 rfl ?_
    exact zW_reti rfl rfl rfl ⟨rfl, H1, e1⟩
  obtain ⟨o, σ', h1, rfl, h2, h3⟩ := main
  exact ⟨σ', h1, h2, h3⟩
theorem M_thrown (H : hRep g w0 σ gh S J) (ha : hat gh S 11 0 a) : zEnd g 0 195 [.ref a] σ (.inl (some (iv (sT S 11 0 0)))) σ := zEnd_of (by
  refine zW_p 1 rfl ?_
  refine hW_get H rfl ha rfl rfl rfl ?_
  exact zW_reti rfl rfl rfl ⟨rfl, rfl⟩)
theorem F_lots (H : hRep g w0 σ gh S J) (hF : fFix S) (ha : hat gh S 0 0 a) : zEnd g 1 5 [.ref a] σ (.inl (some (iv (sn S 6)))) σ := by
  obtain ⟨f0, f1, f2, f3, f4, f5, f6, f7, f8, f9, fa, fb, fc, fd⟩ := hF
  refine zEnd_of ?_
  refine zW_p 1 rfl ?_
  refine hW_getr H rfl ha rfl rfl rfl f3 (fun b2 hb2 => ?_)
  refine hW_size H rfl rfl rfl hb2 rfl rfl rfl (by omega) ?_
  rw [f7, idl_len]
  exact zW_reti rfl rfl rfl ⟨rfl, rfl⟩
theorem F_rest {i : Nat} (H : hRep g w0 σ gh S J) (hF : fFix S) (ha : hat gh S 0 0 a) (hi : i < sn S 6) : zEnd g 4 101 [.ref a, iv i] σ (.inl (some (iv (sT S 6 4 i)))) σ := by
  obtain ⟨b, hb, g1⟩ := F_lot H hF ha hi
  refine zEnd_of ?_
  refine zW_p 2 rfl ?_
  refine wV rfl rfl rfl rfl rfl rfl rfl (H.rc ha rfl rfl) g1 (by omega) ?_
  refine hW_get H rfl hb rfl rfl rfl ?_
  exact zW_reti rfl rfl rfl ⟨rfl, rfl⟩
theorem F_reserved {i : Nat} (H : hRep g w0 σ gh S J) (hF : fFix S) (ha : hat gh S 0 0 a) (hi : i < sn S 6) : zEnd g 4 103 [.ref a, iv i] σ (.inl (some (iv (sT S 6 5 i)))) σ := by
  obtain ⟨b, hb, g1⟩ := F_lot H hF ha hi
  refine zEnd_of ?_
  refine zW_p 2 rfl ?_
  refine wV rfl rfl rfl rfl rfl rfl rfl (H.rc ha rfl rfl) g1 (by omega) ?_
  refine hW_get H rfl hb rfl rfl rfl ?_
  exact zW_reti rfl rfl rfl ⟨rfl, rfl⟩
theorem F_costOfLot {i : Nat} (H : hRep g w0 σ gh S J) (hF : fFix S) (ha : hat gh S 0 0 a) (hi : i < sn S 6) : zEnd g 4 105 [.ref a, iv i] σ (.inl (some (.long (Int64.ofInt (sT S 6 6 i))))) σ := by
  obtain ⟨b, hb, g1⟩ := F_lot H hF ha hi
  refine zEnd_of ?_
  refine zW_p 2 rfl ?_
  refine wV rfl rfl rfl rfl rfl rfl rfl (H.rc ha rfl rfl) g1 (by omega) ?_
  refine hW_get H rfl hb rfl rfl rfl ?_
  exact wW_ret rfl rfl rfl rfl ⟨rfl, rfl⟩
theorem F_wear {i : Nat} (H : hRep g w0 σ gh S J) (hF : fFix S) (ha : hat gh S 0 0 a) (hi : i < sn S 1) : zEnd g 4 177 [.ref a, iv i] σ (.inl (some (iv (sT S 1 6 i)))) σ := by
  obtain ⟨b, hb, g1⟩ := F_machine H hF ha hi
  refine zEnd_of ?_
  refine zW_p 2 rfl ?_
  refine wV rfl rfl rfl rfl rfl rfl rfl (H.rc ha rfl rfl) g1 (by omega) ?_
  refine hW_get H rfl hb rfl rfl rfl ?_
  exact zW_reti rfl rfl rfl ⟨rfl, rfl⟩
theorem F_restX (H : hRep g w0 σ gh S J) (hF : fFix S) (ha : hat gh S 0 0 a) (hv : rg v) (hi : ¬ (0 ≤ v ∧ v < sn S 6)) : ∃ σ' : zS, zEnd g 4 101 [.ref a, iv v] σ (.inr "java/lang/IndexOutOfBoundsException") σ' ∧ hRep g w0 σ' gh S J ∧ kc σ σ' 1 6 := by
  have main : zW g 4 101 0 (lv_args 0 [.ref a, iv v]) [] σ (fun o σ' => o = .inr "java/lang/IndexOutOfBoundsException" ∧ hRep g w0 σ' gh S J ∧ kc σ σ' 1 6) := by
    refine zW_p 2 rfl ?_
    obtain ⟨σ1, g1, g2, g3⟩ := F_lotX H hF ha hv hi
    exact wVT rfl rfl rfl rfl rfl rfl rfl (H.rc ha rfl rfl) g1 (by omega) rfl ⟨rfl, g2, g3⟩
  obtain ⟨o, σ', h1, rfl, h2, h3⟩ := main
  exact ⟨σ', h1, h2, h3⟩
theorem F_reservedX (H : hRep g w0 σ gh S J) (hF : fFix S) (ha : hat gh S 0 0 a) (hv : rg v) (hi : ¬ (0 ≤ v ∧ v < sn S 6)) : ∃ σ' : zS, zEnd g 4 103 [.ref a, iv v] σ (.inr "java/lang/IndexOutOfBoundsException") σ' ∧ hRep g w0 σ' gh S J ∧ kc σ σ' 1 6 := by
  have main : zW g 4 103 0 (lv_args 0 [.ref a, iv v]) [] σ (fun o σ' => o = .inr "java/lang/IndexOutOfBoundsException" ∧ hRep g w0 σ' gh S J ∧ kc σ σ' 1 6) := by
    refine zW_p 2 rfl ?_
    obtain ⟨σ1, g1, g2, g3⟩ := F_lotX H hF ha hv hi
    exact wVT rfl rfl rfl rfl rfl rfl rfl (H.rc ha rfl rfl) g1 (by omega) rfl ⟨rfl, g2, g3⟩
  obtain ⟨o, σ', h1, rfl, h2, h3⟩ := main
  exact ⟨σ', h1, h2, h3⟩
theorem F_costOfLotX (H : hRep g w0 σ gh S J) (hF : fFix S) (ha : hat gh S 0 0 a) (hv : rg v) (hi : ¬ (0 ≤ v ∧ v < sn S 6)) : ∃ σ' : zS, zEnd g 4 105 [.ref a, iv v] σ (.inr "java/lang/IndexOutOfBoundsException") σ' ∧ hRep g w0 σ' gh S J ∧ kc σ σ' 1 6 := by
  have main : zW g 4 105 0 (lv_args 0 [.ref a, iv v]) [] σ (fun o σ' => o = .inr "java/lang/IndexOutOfBoundsException" ∧ hRep g w0 σ' gh S J ∧ kc σ σ' 1 6) := by
    refine zW_p 2 rfl ?_
    obtain ⟨σ1, g1, g2, g3⟩ := F_lotX H hF ha hv hi
    exact wVT rfl rfl rfl rfl rfl rfl rfl (H.rc ha rfl rfl) g1 (by omega) rfl ⟨rfl, g2, g3⟩
  obtain ⟨o, σ', h1, rfl, h2, h3⟩ := main
  exact ⟨σ', h1, h2, h3⟩
theorem F_wearX (H : hRep g w0 σ gh S J) (hF : fFix S) (ha : hat gh S 0 0 a) (hv : rg v) (hi : ¬ (0 ≤ v ∧ v < sn S 1)) : ∃ σ' : zS, zEnd g 4 177 [.ref a, iv v] σ (.inr "java/lang/IndexOutOfBoundsException") σ' ∧ hRep g w0 σ' gh S J ∧ kc σ σ' 1 6 := by
  have main : zW g 4 177 0 (lv_args 0 [.ref a, iv v]) [] σ (fun o σ' => o = .inr "java/lang/IndexOutOfBoundsException" ∧ hRep g w0 σ' gh S J ∧ kc σ σ' 1 6) := by
    refine zW_p 2 rfl ?_
    obtain ⟨σ1, g1, g2, g3⟩ := F_machineX H hF ha hv hi
    exact wVT rfl rfl rfl rfl rfl rfl rfl (H.rc ha rfl rfl) g1 (by omega) rfl ⟨rfl, g2, g3⟩
  obtain ⟨o, σ', h1, rfl, h2, h3⟩ := main
  exact ⟨σ', h1, h2, h3⟩
theorem F_waitingX (H : hRep g w0 σ gh S J) (hF : fFix S) (ha : hat gh S 0 0 a) (hv : rg v) (hi : ¬ (0 ≤ v ∧ v < sn S 1)) : ∃ σ' : zS, zEnd g 4 179 [.ref a, iv v] σ (.inr "java/lang/IndexOutOfBoundsException") σ' ∧ hRep g w0 σ' gh S J ∧ kc σ σ' 1 6 := by
  have main : zW g 4 179 0 (lv_args 0 [.ref a, iv v]) [] σ (fun o σ' => o = .inr "java/lang/IndexOutOfBoundsException" ∧ hRep g w0 σ' gh S J ∧ kc σ σ' 1 6) := by
    refine zW_p 2 rfl ?_
    obtain ⟨σ1, g1, g2, g3⟩ := F_machineX H hF ha hv hi
    exact wVT rfl rfl rfl rfl rfl rfl rfl (H.rc ha rfl rfl) g1 (by omega) rfl ⟨rfl, g2, g3⟩
  obtain ⟨o, σ', h1, rfl, h2, h3⟩ := main
  exact ⟨σ', h1, h2, h3⟩
theorem F_machineIsX (H : hRep g w0 σ gh S J) (hF : fFix S) (ha : hat gh S 0 0 a) (hv : rg v) (hi : ¬ (0 ≤ v ∧ v < sn S 1)) : ∃ σ' : zS, zEnd g 4 175 [.ref a, iv v] σ (.inr "java/lang/IndexOutOfBoundsException") σ' ∧ hRep g w0 σ' gh S J ∧ kc σ σ' 1 6 := by
  have main : zW g 4 175 0 (lv_args 0 [.ref a, iv v]) [] σ (fun o σ' => o = .inr "java/lang/IndexOutOfBoundsException" ∧ hRep g w0 σ' gh S J ∧ kc σ σ' 1 6) := by
    refine zW_p 2 rfl ?_
    obtain ⟨σ1, g1, g2, g3⟩ := F_machineX H hF ha hv hi
    exact wVT rfl rfl rfl rfl rfl rfl rfl (H.rc ha rfl rfl) g1 (by omega) rfl ⟨rfl, g2, g3⟩
  obtain ⟨o, σ', h1, rfl, h2, h3⟩ := main
  exact ⟨σ', h1, h2, h3⟩
theorem F_isHeldIX (H : hRep g w0 σ gh S J) (hF : fFix S) (ha : hat gh S 0 0 a) (hv : rg v) (hi : ¬ (0 ≤ v ∧ v < sn S 6)) : ∃ σ' : zS, zEnd g 4 92 [.ref a, iv v] σ (.inr "java/lang/IndexOutOfBoundsException") σ' ∧ hRep g w0 σ' gh S J ∧ kc σ σ' 1 6 := by
  have main : zW g 4 92 0 (lv_args 0 [.ref a, iv v]) [] σ (fun o σ' => o = .inr "java/lang/IndexOutOfBoundsException" ∧ hRep g w0 σ' gh S J ∧ kc σ σ' 1 6) := by
    refine zW_p 2 rfl ?_
    obtain ⟨σ1, g1, g2, g3⟩ := F_lotX H hF ha hv hi
    exact wVT rfl rfl rfl rfl rfl rfl rfl (H.rc ha rfl rfl) g1 (by omega) rfl ⟨rfl, g2, g3⟩
  obtain ⟨o, σ', h1, rfl, h2, h3⟩ := main
  exact ⟨σ', h1, h2, h3⟩
theorem F_partOfX (H : hRep g w0 σ gh S J) (hF : fFix S) (ha : hat gh S 0 0 a) (hv : rg v) (hi : ¬ (0 ≤ v ∧ v < sn S 6)) : ∃ σ' : zS, zEnd g 4 99 [.ref a, iv v] σ (.inr "java/lang/IndexOutOfBoundsException") σ' ∧ hRep g w0 σ' gh S J ∧ kc σ σ' 1 6 := by
  have main : zW g 4 99 0 (lv_args 0 [.ref a, iv v]) [] σ (fun o σ' => o = .inr "java/lang/IndexOutOfBoundsException" ∧ hRep g w0 σ' gh S J ∧ kc σ σ' 1 6) := by
    refine zW_p 2 rfl ?_
    obtain ⟨σ1, g1, g2, g3⟩ := F_lotX H hF ha hv hi
    exact wVT rfl rfl rfl rfl rfl rfl rfl (H.rc ha rfl rfl) g1 (by omega) rfl ⟨rfl, g2, g3⟩
  obtain ⟨o, σ', h1, rfl, h2, h3⟩ := main
  exact ⟨σ', h1, h2, h3⟩
theorem F_stateOfX (H : hRep g w0 σ gh S J) (hF : fFix S) (ha : hat gh S 0 0 a) (hv : rg v) (hi : ¬ (0 ≤ v ∧ v < sn S 8)) : ∃ σ' : zS, zEnd g 4 168 [.ref a, iv v] σ (.inr "java/lang/IndexOutOfBoundsException") σ' ∧ hRep g w0 σ' gh S J ∧ kc σ σ' 1 6 := by
  have main : zW g 4 168 0 (lv_args 0 [.ref a, iv v]) [] σ (fun o σ' => o = .inr "java/lang/IndexOutOfBoundsException" ∧ hRep g w0 σ' gh S J ∧ kc σ σ' 1 6) := by
    refine zW_p 2 rfl ?_
    obtain ⟨σ1, g1, g2, g3⟩ := F_theOrderX H hF ha hv hi
    exact wVT rfl rfl rfl rfl rfl rfl rfl (H.rc ha rfl rfl) g1 (by omega) rfl ⟨rfl, g2, g3⟩
  obtain ⟨o, σ', h1, rfl, h2, h3⟩ := main
  exact ⟨σ', h1, h2, h3⟩
end ZGT
