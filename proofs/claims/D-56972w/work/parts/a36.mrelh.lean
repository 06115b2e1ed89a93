/-! THE MODEL: release's head -/
set_option maxRecDepth 100000
def mRelC (S : hS) (v : Int) : Int := mC2 S v (mMadeO S v.toNat && !mRel S v.toNat)
section ZMRH
variable {g : zG} {w0 : hG} {σ : zS} {gh : Nat → Nat → Nat} {S T : hS} {J : zw_W} {a b o : Nat} {v : Int} {Q : Option Value ⊕ String → zS → Prop}
theorem M_relH (H : hRep g w0 σ gh S J) (hF : mFix S) (hP : mPart S) (hO : mOrd S) (hq : ∀ o : Nat, o < sn S 15 → 0 ≤ sT S 15 1 o ∧ sT S 15 1 o < sn S 13) (ha : hat gh S 11 0 a) (hv : rg v)
    (hbad : mRelC S v ≠ 0 → ∀ σ' : zS, hRep g w0 σ' gh (mt S (mRelC S v)) J → σ'.2 = σ.2 → Q (.inl (some (iv 0))) σ')
    (hgo : mRelC S v = 0 → ∀ (σ' : zS) (b : Nat), hRep g w0 σ' gh (mt S 0) J → σ'.2 = σ.2 → hat gh (mt S 0) 15 v.toNat b → zW g 106 234 61 [(0, .ref a), (2, .ref b)] [] σ' Q) :
    zM g 106 234 [.ref a, iv v] σ Q := by
  obtain ⟨σ1, g1, H1, k1⟩ := M_failsOrder H hF ha hv
  obtain ⟨f0, f1, f2, f3, f4, f5, f6, f7, f8, f9, fa, fb, fc, fd, fe⟩ := hF
  refine zW_p 2 rfl ?_
  refine wV rfl rfl rfl rfl rfl rfl rfl (H.rc ha rfl rfl) g1 (by omega) ?_
  unfold mRelC mC2 at hbad hgo
  by_cases hc : 0 ≤ v ∧ v < sn S 15
  · rw [decide_eq_true hc] at H1 ⊢
    have hqq : ¬ ¬ (0 ≤ v ∧ v < sn S 15) := fun q => q hc
    rw [if_neg hqq] at hbad hgo
    obtain ⟨i, rfl⟩ : ∃ i : Nat, v = i := ⟨v.toNat, (Int.toNat_of_nonneg hc.1).symm⟩
    rw [Int.toNat_natCast] at hbad hgo
    have hi : i < sn S 15 := by omega
    have H1' : hRep g w0 σ1 gh (mt S 0) J := H1
    have ha1 : hat gh (mt S 0) 11 0 a := ha
    obtain ⟨q3, q4⟩ := hq i hi
    obtain ⟨pi, hpi⟩ : ∃ p : Nat, sT S 15 1 i = p := ⟨(sT S 15 1 i).toNat, (Int.toNat_of_nonneg q3).symm⟩
    have hpl : pi < sn S 13 := by omega
    obtain ⟨p0, p2, p3, p4, p5⟩ := hP pi hpl
    have hr5 : rg (sT (mt S 0) 15 5 i) := by
      show rg (sT S 15 5 i)
      rcases (hO i hi).1 with e | e | e | e | e | e <;> rw [e] <;> constructor <;> decide
    refine zW_p 2 rfl ?_
    refine hW_getr (j := 0) H1' rfl ha rfl rfl rfl f4 (fun b2 hb2 => ?_)
    refine zW_p 1 rfl ?_
    refine hW_lget (y := i) H1' rfl rfl rfl hb2 rfl rfl rfl (show (sE S 33 0)[i]? = _ by rw [fa]; exact idl_at hi) rfl (by omega) (fun b3 hb3 => ?_)
    refine hW_cast H1' rfl hb3 rfl rfl rfl ?_
    generalize hcb : (mMadeO S i && !mRel S i) = cb at hbad hgo
    have fin : ∀ (n : Int) (lv : zp_L), (n = 0 ∨ n = 2) → lvok [(0, .ref a), (2, .ref b3)] lv → n = (if cb = true then 0 else 2) → zW g 106 234 55 lv [iv n, .ref a] σ1 Q := by
      intro n lv hn hlv hne
      refine zW_ly hlv rfl ?_
      rw [← hne] at hbad hgo
      obtain ⟨σ2, g2, H2, k2⟩ := M_fails (v := n) H1' ha1 (by rcases hn with h | h <;> rw [h] <;> exact ⟨by decide, by decide⟩)
      refine wV rfl rfl rfl rfl rfl rfl rfl (H1'.rc ha1 rfl rfl) g2 (by omega) ?_
      have em : sset (mt S 0) 11 0 0 n = mt S n := mt_mt
      rw [em] at H2
      rcases hn with h | h
      · subst h
        refine zW_p 1 rfl ?_
        exact hgo rfl σ2 b3 H2 (k2.trans k1) hb3
      · subst h
        refine zW_p 2 rfl ?_
        exact zW_reti rfl rfl rfl (hbad (by decide) σ2 H2 (k2.trans k1))
    refine zW_p 3 rfl ?_
    refine hW_getr (j := 0) H1' rfl ha1 rfl rfl rfl f2 (fun b4 hb4 => ?_)
    refine zW_p 1 rfl ?_
    refine hW_get H1' rfl hb3 rfl rfl rfl ?_
    rw [show sT (mt S 0) 15 1 i = pi from hpi]
    refine hW_lget (y := pi) H1' rfl rfl rfl hb4 rfl rfl rfl (show (sE S 31 0)[pi]? = _ by rw [f8]; exact idl_at hpl) rfl (by omega) (fun b5 hb5 => ?_)
    refine hW_cast H1' rfl hb5 rfl rfl rfl ?_
    refine hW_get H1' rfl hb5 rfl rfl rfl ?_
    rcases p0 with p0 | p0
    · rw [show sT (mt S 0) 13 0 pi = 0 from p0]
      refine zW_p 3 rfl ?_
      have ecb : cb = false := by rw [← hcb]; unfold mMadeO; rw [hpi, Int.toNat_natCast, p0]; rfl
      exact fin 2 _ (Or.inr rfl) ⟨rfl, rfl, trivial⟩ (by rw [ecb]; rfl)
    · rw [show sT (mt S 0) 13 0 pi = 1 from p0]
      refine zW_p 2 rfl ?_
      have gR := M_isReleased H1' hb3 hr5
      have eR : mRel (mt S 0) i = mRel S i := rfl
      rw [eR] at gR
      refine wV rfl rfl rfl rfl rfl rfl rfl (H1'.rc hb3 rfl rfl) gR (by omega) ?_
      have emd : mMadeO S i = true := by unfold mMadeO; rw [hpi, Int.toNat_natCast, p0]; rfl
      rw [emd] at hcb
      cases hr : mRel S i with
      | false =>
        rw [hr] at hcb
        refine zW_p 2 rfl ?_
        exact fin 0 _ (Or.inl rfl) ⟨rfl, rfl, trivial⟩ (by rw [← hcb]; rfl)
      | true =>
        rw [hr] at hcb
        refine zW_p 3 rfl ?_
        exact fin 2 _ (Or.inr rfl) ⟨rfl, rfl, trivial⟩ (by rw [← hcb]; rfl)
  · rw [decide_eq_false hc] at H1 ⊢
    rw [if_pos hc] at hbad
    refine zW_p 2 rfl ?_
    exact zW_reti rfl rfl rfl (hbad (by decide) σ1 H1 k1)
end ZMRH
