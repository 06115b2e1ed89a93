/-! THE MODEL: promise, scrap -/
set_option maxRecDepth 100000
section ZMP2
variable {g : zG} {w0 : hG} {z : Nat → Nat} {σ : zS} {gh : Nat → Nat → Nat} {S T : hS} {J : zw_W} {a b o : Nat} {u v : Int}
def mMadeO (S : hS) (o : Nat) : Bool := decide (sT S 13 0 (sT S 15 1 o).toNat = 1)
def mPromC (S : hS) (v : Int) : Int := mC2 S v (mMadeO S v.toNat && decide (sT S 15 5 v.toNat = 45))
theorem M_promise (H : hRep g w0 σ gh S J) (hC : hCache g w0 gh S) (hF : mFix S) (hW : mW S) (hA : mAv S) (hP : mPart S) (hCm : mCmp S) (hO : mOrd S) (hO2 : mOrd2 S) (hQ : ∀ o : Nat, o < sn S 15 → mOq S o) (hN : ∀ o : Nat, o < sn S 15 → sT S 15 5 o = 45 → sE S 38 o = [] ∧ sE S 39 o = []) (ha : hat gh S 11 0 a) (hv : rg v) :
    zM g 106 227 [.ref a, iv v] σ (fun r σ' => (mPromC S v ≠ 0 ∧ r = .inl (some (iv 0)) ∧ hRep g w0 σ' gh (mt S (mPromC S v)) J ∧ kc σ σ' 0 0) ∨ (mPromC S v = 0 ∧ r = .inl (some (iv (bi (mRA (mt S 0) v.toNat).2.1))) ∧ ∃ ghx, gext S gh ghx ∧ hRep g w0 σ' ghx (mRA (mt S 0) v.toNat).1 J ∧ kc σ σ' (mRA (mt S 0) v.toNat).2.2.1 (mRA (mt S 0) v.toNat).2.2.2 ∧ mResI g w0 ghx (mt S 0) (mRAN (mt S 0) v.toNat (mComps (mt S 0) v.toNat).length).1 v.toNat)) := by
  obtain ⟨σ1, g1, H1, k1⟩ := M_failsOrder H hF ha hv
  have hFx := hF
  obtain ⟨f0, f1, f2, f3, f4, f5, f6, f7, f8, f9, fa, fb, fc, fd, fe⟩ := hF
  refine zW_p 2 rfl ?_
  refine wV rfl rfl rfl rfl rfl rfl rfl (H.rc ha rfl rfl) g1 (by omega) ?_
  unfold mPromC mC2
  by_cases hc : 0 ≤ v ∧ v < sn S 15
  · rw [decide_eq_true hc] at H1 ⊢
    have hqq : ¬ ¬ (0 ≤ v ∧ v < sn S 15) := fun q => q hc
    rw [if_neg hqq]
    obtain ⟨i, rfl⟩ : ∃ i : Nat, v = i := ⟨v.toNat, (Int.toNat_of_nonneg hc.1).symm⟩
    rw [Int.toNat_natCast]
    have hi : i < sn S 15 := by omega
    have H1' : hRep g w0 σ1 gh (mt S 0) J := H1
    have hQi := hQ i hi
    obtain ⟨q1, q2, q3, q4⟩ := hQi
    obtain ⟨pi, hpi⟩ : ∃ p : Nat, sT S 15 1 i = p := ⟨(sT S 15 1 i).toNat, (Int.toNat_of_nonneg q3).symm⟩
    have hpl : pi < sn S 13 := by omega
    obtain ⟨p0, p2, p3, p4, p5⟩ := hP pi hpl
    refine zW_p 2 rfl ?_
    refine hW_getr (j := 0) H1' rfl ha rfl rfl rfl f4 (fun b2 hb2 => ?_)
    refine zW_p 1 rfl ?_
    refine hW_lget (y := i) H1' rfl rfl rfl hb2 rfl rfl rfl (show (sE S 33 0)[i]? = _ by rw [fa]; exact idl_at hi) rfl (by omega) (fun b3 hb3 => ?_)
    refine hW_cast H1' rfl hb3 rfl rfl rfl ?_
    generalize hcb : (mMadeO S i && decide (sT S 15 5 i = 45)) = cb
    have fin : ∀ (n : Int) (lv : zp_L), (n = 0 ∨ n = 2) → lvok [(0, .ref a), (2, .ref b3)] lv → n = (if cb = true then 0 else 2) → zW g 106 227 57 lv [iv n, .ref a] σ1 (fun r σ' => ((if cb = true then (0 : Int) else 2) ≠ 0 ∧ r = .inl (some (iv 0)) ∧ hRep g w0 σ' gh (mt S (if cb = true then 0 else 2)) J ∧ kc σ σ' 0 0) ∨ ((if cb = true then (0 : Int) else 2) = 0 ∧ r = .inl (some (iv (bi (mRA (mt S 0) i).2.1))) ∧ ∃ ghx, gext S gh ghx ∧ hRep g w0 σ' ghx (mRA (mt S 0) i).1 J ∧ kc σ σ' (mRA (mt S 0) i).2.2.1 (mRA (mt S 0) i).2.2.2 ∧ mResI g w0 ghx (mt S 0) (mRAN (mt S 0) i (mComps (mt S 0) i).length).1 i)) := by
      intro n lv hn hlv hne
      refine zW_ly hlv rfl ?_
      rw [← hne]
      obtain ⟨σ2, g2, H2, k2⟩ := M_fails (v := n) H1' (show hat gh (mt S 0) 11 0 a from ha) (by rcases hn with h | h <;> rw [h] <;> exact ⟨by decide, by decide⟩)
      refine wV rfl rfl rfl rfl rfl rfl rfl (H1'.rc (show hat gh (mt S 0) 11 0 a from ha) rfl rfl) g2 (by omega) ?_
      have em : sset (mt S 0) 11 0 0 n = mt S n := mt_mt
      rw [em] at H2
      rcases hn with h | h
      · subst h
        have hcbt : cb = true := by
          cases cb with
          | true => rfl
          | false => rw [if_neg (by decide)] at hne; omega
        have h5 : sT S 15 5 i = 45 := by
          rw [← hcb] at hcbt
          exact of_decide_eq_true (Bool.and_eq_true_iff.mp hcbt).2
        obtain ⟨n1, n2⟩ := hN i hi h5
        refine zW_p 3 rfl ?_
        obtain ⟨r, σ3, g3, rfl, ghx, x3, H3, k3, hi3⟩ := M_reserve (o := i) H2 (show hCache g w0 gh (mt S 0) from hC) (show mFix (mt S 0) from hFx) (show mW (mt S 0) from hW) (show mAv (mt S 0) from hA) (show mPart (mt S 0) from hP) (show mCmp (mt S 0) from hCm) (show mOrd2 (mt S 0) from hO2) (show mOq (mt S 0) i from ⟨q1, q2, q3, q4⟩) n1 n2 (show hat gh (mt S 0) 11 0 a from ha) hb3
        refine wV rfl rfl rfl rfl rfl rfl rfl (H2.rc (show hat gh (mt S 0) 11 0 a from ha) rfl rfl) g3 (by omega) ?_
        have kk := kc.same (k2.trans k1) k3
        cases hh : (mRA (mt S 0) i).2.1 with
        | true =>
          refine zW_p 3 rfl ?_
          exact zW_reti rfl rfl rfl (Or.inr ⟨rfl, rfl, ghx, x3, H3, kk, hi3⟩)
        | false =>
          refine zW_p 2 rfl ?_
          exact zW_reti rfl rfl rfl (Or.inr ⟨rfl, rfl, ghx, x3, H3, kk, hi3⟩)
      · subst h
        refine zW_p 2 rfl ?_
        exact zW_reti rfl rfl rfl (Or.inl ⟨by decide, rfl, H2, kc.of (k2.trans k1)⟩)
    refine zW_p 3 rfl ?_
    refine hW_getr (j := 0) H1' rfl (show hat gh (mt S 0) 11 0 a from ha) rfl rfl rfl f2 (fun b4 hb4 => ?_)
    refine zW_p 1 rfl ?_
    refine hW_get H1' rfl hb3 rfl rfl rfl ?_
    rw [show sT (mt S 0) 15 1 i = pi from hpi]
    refine hW_lget (y := pi) H1' rfl rfl rfl hb4 rfl rfl rfl (show (sE S 31 0)[pi]? = _ by rw [f8]; exact idl_at hpl) rfl (by omega) (fun b5 hb5 => ?_)
    refine hW_cast H1' rfl hb5 rfl rfl rfl ?_
    refine hW_get H1' rfl hb5 rfl rfl rfl ?_
    rcases p0 with p0 | p0
    · rw [show sT (mt S 0) 13 0 pi = 0 from p0]
      refine zW_p 3 rfl ?_
      have ecb : cb = false := by rw [← hcb]; unfold mMadeO; rw [hpi, Int.toNat_natCast, p0]; rfl
      exact fin 2 _ (Or.inr rfl) ⟨rfl, rfl, trivial⟩ (by rw [ecb]; rfl)
    · rw [show sT (mt S 0) 13 0 pi = 1 from p0]
      refine zW_p 2 rfl ?_
      refine hW_get H1' rfl hb3 rfl rfl rfl ?_
      refine zW_p 1 rfl ?_
      have hr5 : rg (sT S 15 5 i) := by rcases (hO i hi).1 with e | e | e | e | e | e <;> rw [e] <;> constructor <;> decide
      by_cases e5 : sT S 15 5 i = 45
      · have ecb : cb = true := by rw [← hcb]; unfold mMadeO; rw [hpi, Int.toNat_natCast, p0, decide_eq_true e5]; rfl
        refine zW_t rfl rfl ((I_eq (show rg (sT (mt S 0) 15 5 i) from hr5) (by constructor <;> decide)).2 e5) ?_
        refine zW_p 1 rfl ?_
        exact fin 0 _ (Or.inl rfl) ⟨rfl, rfl, trivial⟩ (by rw [ecb]; rfl)
      · have ecb : cb = false := by rw [← hcb, decide_eq_false e5, Bool.and_false]
        refine zW_f rfl rfl (fun q => e5 ((I_eq (show rg (sT (mt S 0) 15 5 i) from hr5) (by constructor <;> decide)).1 q)) ?_
        refine zW_p 2 rfl ?_
        exact fin 2 _ (Or.inr rfl) ⟨rfl, rfl, trivial⟩ (by rw [ecb]; rfl)
  · rw [decide_eq_false hc] at H1 ⊢
    rw [if_pos hc]
    refine zW_p 2 rfl ?_
    exact zW_reti rfl rfl rfl (Or.inl ⟨by decide, rfl, H1, kc.of k1⟩)
end ZMP2
