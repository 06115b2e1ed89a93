/-! MACHINES, held lots, parts of lots: both classes -/
set_option maxRecDepth 100000
/-- Foundrymark's machines are well -/
def fMach (S : hS) : Prop := ∀ m : Nat, m < sn S 1 → (sT S 1 8 m = 0 ∨ sT S 1 8 m = 1) ∧ 0 ≤ sT S 1 4 m ∧ (sE S 45 (sT S 1 4 m).toNat).length ≤ 30
def fFree (S : hS) (m : Nat) : Bool := decide (sT S 1 7 m < 0) && sT S 1 8 m == 0
def fQ (S : hS) (m : Nat) : List Int := sE S 45 (sT S 1 4 m).toNat
def fJobs (S : hS) (m : Nat) : Int := (fQ S m).length + (if sT S 1 7 m < 0 then 0 else 1)
section ZMC
variable {g : zG} {w0 : hG} {σ : zS} {gh : Nat → Nat → Nat} {S : hS} {J : zw_W} {a b m : Nat} {v : Int}
theorem F_isFree (H : hRep g w0 σ gh S J) (hM : fMach S) (hb : hat gh S 1 m b) : zEnd g 0 149 [.ref b] σ (.inl (some (iv (bi (fFree S m))))) σ := by
  obtain ⟨w1, w2, w3⟩ := hM m hb.1
  refine zEnd_of ?_
  unfold fFree
  refine zW_p 1 rfl ?_
  by_cases hw : sT S 1 7 m < 0
  · rw [decide_eq_true hw, Bool.true_and]
    refine hW_getn H rfl hb rfl rfl rfl hw ?_
    refine zW_p 2 rfl ?_
    refine hW_get H rfl hb rfl rfl rfl ?_
    rcases w1 with e | e
    · rw [e]
      refine zW_p 3 rfl ?_
      exact zW_reti rfl rfl rfl ⟨rfl, rfl⟩
    · rw [e]
      refine zW_p 2 rfl ?_
      exact zW_reti rfl rfl rfl ⟨rfl, rfl⟩
  · rw [decide_eq_false hw, Bool.false_and]
    refine hW_getr (j := (sT S 1 7 m).toNat) H rfl hb rfl rfl rfl (Int.toNat_of_nonneg (by omega)).symm (fun b1 hb1 => ?_)
    refine zW_p 2 rfl ?_
    exact zW_reti rfl rfl rfl ⟨rfl, rfl⟩
theorem F_endsAt (H : hRep g w0 σ gh S J) (hM : fMach S) (hb : hat gh S 1 m b) (hv : rg v) (he : rg (sT S 1 10 m)) : zEnd g 1 159 [.ref b, iv v] σ (.inl (some (iv (bi (!fFree S m && decide (sT S 1 10 m = v)))))) σ := by
  refine zEnd_of ?_
  refine zW_p 1 rfl ?_
  refine wV rfl rfl rfl rfl rfl rfl rfl (H.rc hb rfl rfl) (F_isFree H hM hb) (by omega) ?_
  cases hf : fFree S m with
  | true =>
    refine zW_p 2 rfl ?_
    exact zW_reti rfl rfl rfl ⟨rfl, rfl⟩
  | false =>
    refine zW_p 2 rfl ?_
    refine hW_get H rfl hb rfl rfl rfl ?_
    refine zW_p 1 rfl ?_
    refine zW_br rfl rfl (fun hP => ?_) (fun hP => ?_)
    · have hP2 : ¬ sT S 1 10 m = v := fun e => hP (by rw [e])
      rw [decide_eq_false hP2]
      refine zW_p 1 rfl ?_
      exact zW_reti rfl rfl rfl ⟨rfl, rfl⟩
    · have hP2 : sT S 1 10 m = v := by
        by_cases e : sT S 1 10 m = v
        · exact e
        · exact absurd (fun q => e ((I_eq he hv).mp q)) hP
      rw [decide_eq_true hP2]
      refine zW_p 2 rfl ?_
      exact zW_reti rfl rfl rfl ⟨rfl, rfl⟩
theorem F_jobs (H : hRep g w0 σ gh S J) (hM : fMach S) (hb : hat gh S 1 m b) : zEnd g 1 129 [.ref b] σ (.inl (some (iv (fJobs S m)))) σ := by
  obtain ⟨w1, w2, w3⟩ := hM m hb.1
  refine zEnd_of ?_
  unfold fJobs fQ
  refine zW_p 1 rfl ?_
  refine hW_getr (j := (sT S 1 4 m).toNat) H rfl hb rfl rfl rfl (Int.toNat_of_nonneg w2).symm (fun b1 hb1 => ?_)
  refine hW_qsize H rfl rfl rfl hb1 rfl (by omega) ?_
  refine zW_p 1 rfl ?_
  by_cases hw : sT S 1 7 m < 0
  · rw [if_pos hw]
    refine hW_getn H rfl hb rfl rfl rfl hw ?_
    refine zW_p 3 rfl ?_
    refine zW_p 1 rfl ?_
    rw [I_add]
    exact zW_reti rfl rfl rfl ⟨rfl, rfl⟩
  · rw [if_neg hw]
    refine hW_getr (j := (sT S 1 7 m).toNat) H rfl hb rfl rfl rfl (Int.toNat_of_nonneg (by omega)).symm (fun b2 hb2 => ?_)
    refine zW_p 3 rfl ?_
    rw [I_add]
    exact zW_reti rfl rfl rfl ⟨rfl, rfl⟩
theorem F_waiting {i : Nat} (H : hRep g w0 σ gh S J) (hF : fFix S) (hM : fMach S) (ha : hat gh S 0 0 a) (hi : i < sn S 1) : zEnd g 4 179 [.ref a, iv i] σ (.inl (some (iv (fQ S i).length))) σ := by
  obtain ⟨b, hb, g1⟩ := F_machine H hF ha hi
  obtain ⟨w1, w2, w3⟩ := hM i hi
  refine zEnd_of ?_
  unfold fQ
  refine zW_p 2 rfl ?_
  refine wV rfl rfl rfl rfl rfl rfl rfl (H.rc ha rfl rfl) g1 (by omega) ?_
  refine hW_getr (j := (sT S 1 4 i).toNat) H rfl hb rfl rfl rfl (Int.toNat_of_nonneg w2).symm (fun b1 hb1 => ?_)
  refine hW_qsize H rfl rfl rfl hb1 rfl (by omega) ?_
  exact zW_reti rfl rfl rfl ⟨rfl, rfl⟩
/-- 'b', '-', 'o' -/
def fState (S : hS) (m : Nat) : Int := if sT S 1 8 m = 1 then 98 else if sT S 1 7 m < 0 then 45 else 111
theorem F_machineIs {i : Nat} (H : hRep g w0 σ gh S J) (hF : fFix S) (hM : fMach S) (ha : hat gh S 0 0 a) (hi : i < sn S 1) : zEnd g 4 175 [.ref a, iv i] σ (.inl (some (iv (fState S i)))) σ := by
  obtain ⟨b, hb, g1⟩ := F_machine H hF ha hi
  obtain ⟨w1, w2, w3⟩ := hM i hi
  refine zEnd_of ?_
  unfold fState
  refine zW_p 2 rfl ?_
  refine wV rfl rfl rfl rfl rfl rfl rfl (H.rc ha rfl rfl) g1 (by omega) ?_
  refine zW_p 2 rfl ?_
  refine hW_get H rfl hb rfl rfl rfl ?_
  rcases w1 with e | e
  · rw [e, if_neg (by decide)]
    refine zW_p 2 rfl ?_
    by_cases hw : sT S 1 7 i < 0
    · rw [if_pos hw]
      refine hW_getn H rfl hb rfl rfl rfl hw ?_
      refine zW_p 3 rfl ?_
      exact zW_reti rfl rfl rfl ⟨rfl, rfl⟩
    · rw [if_neg hw]
      refine hW_getr (j := (sT S 1 7 i).toNat) H rfl hb rfl rfl rfl (Int.toNat_of_nonneg (by omega)).symm (fun b2 hb2 => ?_)
      refine zW_p 2 rfl ?_
      exact zW_reti rfl rfl rfl ⟨rfl, rfl⟩
  · rw [e, if_pos rfl]
    refine zW_p 3 rfl ?_
    exact zW_reti rfl rfl rfl ⟨rfl, rfl⟩
theorem F_isHeldI {i : Nat} (H : hRep g w0 σ gh S J) (hF : fFix S) (hW : fW S) (ha : hat gh S 0 0 a) (hi : i < sn S 6) : ∃ σ' : zS, zEnd g (i + 5) 92 [.ref a, iv i] σ (.inl (some (iv (bi (tHeld (fh S) (fch S) (i + 1) i))))) σ' ∧ hRep g w0 σ' gh S J ∧ kc σ σ' (tN (fch S) (i + 1) i) (4 * tN (fch S) (i + 1) i) := by
  obtain ⟨b, hb, g1⟩ := F_lot H hF ha hi
  obtain ⟨σ1, h1, h2, h3⟩ := F_isHeld (i + 1) (Nat.lt_succ_self i) H hb hW
  refine ⟨σ1, zEnd_of ?_, h2, h3⟩
  refine zW_p 2 rfl ?_
  refine wV rfl rfl rfl rfl rfl rfl rfl (H.rc ha rfl rfl) g1 (by omega) ?_
  refine wV rfl rfl rfl rfl rfl rfl rfl (H.rc hb rfl rfl) h1 (by omega) ?_
  exact zW_reti rfl rfl (by cases tHeld (fh S) (fch S) (i + 1) i <;> rfl) ⟨rfl, rfl⟩
theorem M_isHeldI (H : hRep g w0 σ gh S J) (hF : mFix S) (hW : mW S) (ha : hat gh S 11 0 a) (hv : rg v) : ∃ σ' : zS, zEnd g (v.toNat + 5) 217 [.ref a, iv v] σ (.inl (some (iv (bi (decide (0 ≤ v ∧ v < sn S 14) && tHeld (mh S) (mch S) (v.toNat + 1) v.toNat))))) σ' ∧ hRep g w0 σ' gh (mt S (bi (!decide (0 ≤ v ∧ v < sn S 14)))) J ∧ kc σ σ' (if 0 ≤ v ∧ v < sn S 14 then tN (mch S) (v.toNat + 1) v.toNat else 0) (4 * (if 0 ≤ v ∧ v < sn S 14 then tN (mch S) (v.toNat + 1) v.toNat else 0)) := by
  obtain ⟨σ1, g1, g2, g3⟩ := M_failsLot H hF ha hv
  obtain ⟨f0, f1, f2, f3, f4, f5, f6, f7, f8, f9, fa, fb, fc, fd, fe⟩ := hF
  have main : zW g (v.toNat + 5) 217 0 (lv_args 0 [.ref a, iv v]) [] σ (fun o σ' => o = .inl (some (iv (bi (decide (0 ≤ v ∧ v < sn S 14) && tHeld (mh S) (mch S) (v.toNat + 1) v.toNat)))) ∧ hRep g w0 σ' gh (mt S (bi (!decide (0 ≤ v ∧ v < sn S 14)))) J ∧ kc σ σ' (if 0 ≤ v ∧ v < sn S 14 then tN (mch S) (v.toNat + 1) v.toNat else 0) (4 * (if 0 ≤ v ∧ v < sn S 14 then tN (mch S) (v.toNat + 1) v.toNat else 0))) := by
    refine zW_p 2 rfl ?_
    refine wV rfl rfl rfl rfl rfl rfl rfl (H.rc ha rfl rfl) g1 (by omega) ?_
    by_cases hc : 0 ≤ v ∧ v < sn S 14
    · rw [decide_eq_true hc] at g2 ⊢
      rw [if_pos hc, Bool.true_and]
      obtain ⟨i, rfl⟩ : ∃ i : Nat, v = i := ⟨v.toNat, (Int.toNat_of_nonneg hc.1).symm⟩
      rw [Int.toNat_natCast]
      refine zW_p 2 rfl ?_
      refine hW_getr g2 rfl ha rfl rfl rfl f3 (fun b2 hb2 => ?_)
      refine zW_p 1 rfl ?_
      refine hW_lget (y := i) g2 rfl rfl rfl hb2 rfl rfl rfl (by rw [sE_set, f9]; exact idl_at (by omega)) rfl (by omega) (fun b3 hb3 => ?_)
      refine hW_cast g2 rfl hb3 rfl rfl rfl ?_
      obtain ⟨σ2, h1, h2, h3⟩ := M_isHeld (i + 1) (Nat.lt_succ_self i) g2 hb3 (show mW (mt S _) from hW)
      refine wV rfl rfl rfl rfl rfl rfl rfl (g2.rc hb3 rfl rfl) h1 (by omega) ?_
      have hk := (kc.of g3).trans h3
      have hk2 : kc σ σ2 (tN (mch S) (i + 1) i) (4 * tN (mch S) (i + 1) i) := hk.mono (by rw [Nat.zero_add]; exact Nat.le_refl _) (by rw [Nat.zero_add]; exact Nat.le_refl _)
      have hh : tHeld (mh (mt S (bi (!true)))) (mch (mt S (bi (!true)))) (i + 1) i = tHeld (mh S) (mch S) (i + 1) i := rfl
      rw [hh]
      cases tHeld (mh S) (mch S) (i + 1) i with
      | true =>
        refine zW_p 3 rfl ?_
        exact zW_reti rfl rfl rfl ⟨rfl, h2, hk2⟩
      | false =>
        refine zW_p 2 rfl ?_
        exact zW_reti rfl rfl rfl ⟨rfl, h2, hk2⟩
    · rw [decide_eq_false hc] at g2 ⊢
      rw [if_neg hc, Bool.false_and]
      refine zW_p 2 rfl ?_
      exact zW_reti rfl rfl rfl ⟨rfl, g2, kc.of g3⟩
  obtain ⟨o, σ', h1, rfl, h2, h3⟩ := main
  exact ⟨σ', h1, h2, h3⟩
end ZMC
