/-! THE MODEL's machines: who waits, jobs, states -/
set_option maxRecDepth 100000
def mMach (S : hS) : Prop := ∀ k : Nat, k < sn S 12 → sT S 12 6 k = 45 ∨ sT S 12 6 k = 98 ∨ sT S 12 6 k = 111
/-- the model's orders: a state's letter, a machine -/
def mOrd (S : hS) : Prop := ∀ o : Nat, o < sn S 15 → (sT S 15 5 o = 45 ∨ sT S 15 5 o = 112 ∨ sT S 15 5 o = 119 ∨ sT S 15 5 o = 111 ∨ sT S 15 5 o = 102 ∨ sT S 15 5 o = 100) ∧ rg (sT S 15 10 o)
def mWt (S : hS) (m : Int) (o : Nat) : Bool := sT S 15 5 o == 119 && sT S 15 10 o == m
def mWc (S : hS) (m : Int) (p : Nat) : Nat := ((List.range p).filter (mWt S m)).length
theorem mWc_succ {S : hS} {m : Int} {p : Nat} : mWc S m (p + 1) = mWc S m p + (if mWt S m p then 1 else 0) := by
  unfold mWc
  rw [List.range_succ, List.filter_append, List.length_append]
  congr 1
  by_cases h : mWt S m p
  · rw [if_pos h]; simp [h]
  · rw [if_neg h]; simp [h]
theorem mWc_le {S : hS} {m : Int} {p : Nat} : mWc S m p ≤ p := by
  unfold mWc
  exact Nat.le_trans (List.length_filter_le _ _) (by rw [List.length_range]; exact Nat.le_refl _)
section ZMW
variable {g : zG} {w0 : hG} {σ : zS} {gh : Nat → Nat → Nat} {S : hS} {J : zw_W} {a b m : Nat} {v : Int}
theorem M_waits (H : hRep g w0 σ gh S J) (hF : mFix S) (hO : mOrd S) (ha : hat gh S 11 0 a) (hv : rg v) : ∃ σ' : zS, zEnd g 2 239 [.ref a, iv v] σ (.inl (some (iv (mWc S v (sn S 15))))) σ' ∧ hRep g w0 σ' gh S J ∧ kc σ σ' 1 4 := by
  obtain ⟨f0, f1, f2, f3, f4, f5, f6, f7, f8, f9, fa, fb, fc, fd, fe⟩ := hF
  have hlen : (sE S 33 0).length = sn S 15 := by rw [fa, idl_len]
  have loop : ∀ (q p : Nat) (σ1 : zS) (J' : zw_W) (it b : Nat) (l : Int), p + q = sn S 15 → hat gh S 33 0 b → J it = none → J' = zw_up J it (wIt p l (Int32.ofInt (sM S 33 0)) b) → hRep g w0 σ1 gh S J' →
      zW g 2 239 10 [(1, iv v), (2, iv (mWc S v p)), (3, .ref it)] [] σ1 (fun o σ' => o = .inl (some (iv (mWc S v (sn S 15)))) ∧ hRep g w0 σ' gh S J ∧ kc σ1 σ' 0 0) := by
    intro q
    induction q with
    | zero =>
      intro p σ1 J' it b l hp hb hJ hJ' H1
      refine zW_p 1 rfl ?_
      refine hW_hasNext H1 rfl rfl rfl hb rfl rfl (by rw [hJ']; exact zw_up_same _ _ _) (by omega) rfl (by omega) ?_
      rw [if_neg (by omega)]
      refine zW_p 2 rfl ?_
      rw [show p = sn S 15 by omega]
      refine zW_reti rfl rfl rfl ⟨rfl, H1.drop (fun c e hc => ?_), kc.rfl'⟩
      rw [hJ', zw_up_ne _ _ (fun e => by rw [e, hJ] at hc; cases hc)]
      exact hc
    | succ q ihq =>
      intro p σ1 J' it b l hp hb hJ hJ' H1
      have hlt : p < sn S 15 := by omega
      have hpe : (sE S 33 0)[p]? = some (p : Int) := by rw [fa]; exact idl_at hlt
      obtain ⟨w1, w2⟩ := hO p hlt
      refine zW_p 1 rfl ?_
      refine hW_hasNext H1 rfl rfl rfl hb rfl rfl (by rw [hJ']; exact zw_up_same _ _ _) (by omega) rfl (by omega) ?_
      rw [if_pos (by omega)]
      refine zW_p 2 rfl ?_
      refine hW_next H1 rfl rfl rfl hb rfl rfl rfl (by rw [hJ']; exact zw_up_same _ _ _) hpe rfl (by omega) (fun σ2 e he H2 hs2 => ?_)
      refine hW_cast H2 rfl he rfl rfl rfl ?_
      have hJ2 : zw_up J' it (wIt ((p + 1 : Nat) : Int) p (Int32.ofInt (sM S 33 0)) b) = zw_up J it (wIt ((p + 1 : Nat) : Int) p (Int32.ofInt (sM S 33 0)) b) := by rw [hJ', zw_up_up]
      have fin : zW g 2 239 10 [(1, iv v), (2, iv (mWc S v (p + 1))), (3, .ref it)] [] σ2 (fun o σ' => o = .inl (some (iv (mWc S v (sn S 15)))) ∧ hRep g w0 σ' gh S J ∧ kc σ1 σ' 0 0) := by
        obtain ⟨o, σ3, h1, h2, h3, h4⟩ := ihq (p + 1) σ2 _ it b p (by omega) hb hJ hJ2 H2
        exact ⟨o, σ3, h1, h2, h3, ((kc.of hs2).trans h4)⟩
      rw [mWc_succ] at fin
      refine zW_p 3 rfl ?_
      refine hW_get H2 rfl he rfl rfl rfl ?_
      refine zW_p 1 rfl ?_
      have n0 : ∀ r : Int, r = 0 ∨ r = 1 → (Int32.ofInt (mWc S v p : Int) + Int32.ofInt r) = Int32.ofInt ((mWc S v p : Int) + r) := fun r _ => I_add
      have e119 : (Int8.ofInt 119).toInt32 = Int32.ofInt 119 := rfl
      have w1r : rg (sT S 15 5 p) := by rcases w1 with e | e | e | e | e | e <;> rw [e] <;> exact ⟨by decide, by decide⟩
      rw [e119]
      refine zW_br rfl rfl (fun hP => ?_) (fun hP => ?_)
      · have hP2 : ¬ sT S 15 5 p = 119 := fun e => hP (by rw [e])
        have hf : mWt S v p = false := by unfold mWt; simp [hP2]
        rw [hf, if_neg (by decide)] at fin
        refine zW_p 1 rfl ?_
        refine zW_p 1 rfl ?_
        rw [I_add]
        refine zW_p 2 rfl ?_
        exact zW_lv [(1, iv v), (2, iv (mWc S v p)), (3, .ref it)] rfl ⟨rfl, by rw [Int.add_zero]; rfl, rfl, trivial⟩ fin
      · have hP2 : sT S 15 5 p = 119 := by
          by_cases e : sT S 15 5 p = 119
          · exact e
          · exact absurd (fun q => e ((I_eq w1r ⟨by decide, by decide⟩).mp q)) hP
        refine zW_p 1 rfl ?_
        refine hW_get H2 rfl he rfl rfl rfl ?_
        refine zW_p 1 rfl ?_
        refine zW_br rfl rfl (fun hQ => ?_) (fun hQ => ?_)
        · have hQ2 : ¬ sT S 15 10 p = v := fun e => hQ (by rw [e])
          have hf : mWt S v p = false := by unfold mWt; simp [hQ2]
          rw [hf, if_neg (by decide)] at fin
          refine zW_p 2 rfl ?_
          rw [I_add]
          refine zW_p 2 rfl ?_
          exact zW_lv [(1, iv v), (2, iv (mWc S v p)), (3, .ref it)] rfl ⟨rfl, by rw [Int.add_zero]; rfl, rfl, trivial⟩ fin
        · have hQ2 : sT S 15 10 p = v := by
            by_cases e : sT S 15 10 p = v
            · exact e
            · exact absurd (fun q => e ((I_eq w2 hv).mp q)) hQ
          have hf : mWt S v p = true := by unfold mWt; simp [hP2, hQ2]
          rw [hf, if_pos rfl] at fin
          refine zW_p 3 rfl ?_
          rw [I_add]
          refine zW_p 2 rfl ?_
          exact zW_lv [(1, iv v), (2, iv ((mWc S v p + 1 : Nat) : Int)), (3, .ref it)] rfl ⟨rfl, rfl, rfl, trivial⟩ fin
  have main : zW g 2 239 0 (lv_args 0 [.ref a, iv v]) [] σ (fun o σ' => o = .inl (some (iv (mWc S v (sn S 15)))) ∧ hRep g w0 σ' gh S J ∧ kc σ σ' 1 4) := by
    refine zW_p 3 rfl ?_
    refine hW_getr H rfl ha rfl rfl rfl f4 (fun b1 hb1 => ?_)
    refine hW_iter H rfl rfl rfl hb1 rfl rfl rfl (by omega) (fun σ2 it2 hJ2 H2 k2 => ?_)
    refine zW_p 1 rfl ?_
    refine zW_lv [(1, iv v), (2, iv (mWc S v 0)), (3, .ref it2)] rfl ⟨rfl, rfl, rfl, trivial⟩ ?_
    obtain ⟨o, σ3, h1, h2, h3, h4⟩ := loop (sn S 15) 0 σ2 _ it2 b1 (-1) (by omega) hb1 hJ2 rfl H2
    exact ⟨o, σ3, h1, h2, h3, k2.trans h4⟩
  obtain ⟨o, σ', h1, rfl, h2, h3⟩ := main
  exact ⟨σ', h1, h2, h3⟩
/-- jobs at machine k -/
def mJobs (S : hS) (k : Nat) : Int := mWc S k (sn S 15) + (if sT S 12 6 k = 111 then 1 else 0)
theorem M_jobs {k : Nat} (H : hRep g w0 σ gh S J) (hF : mFix S) (hO : mOrd S) (hM : mMach S) (ha : hat gh S 11 0 a) (hk : k < sn S 12) : ∃ σ' : zS, zEnd g 3 238 [.ref a, iv k] σ (.inl (some (iv (mJobs S k)))) σ' ∧ hRep g w0 σ' gh S J ∧ kc σ σ' 1 4 := by
  have hk5 := hF.2.2.2.2.2.2.2.2.2.2.2.1
  obtain ⟨σ1, g1, g2, g3⟩ := M_waits (v := k) H hF hO ha ⟨by omega, by omega⟩
  obtain ⟨f0, f1, f2, f3, f4, f5, f6, f7, f8, f9, fa, fb, fc, fd, fe⟩ := hF
  have w1 := hM k hk
  refine ⟨σ1, zEnd_of ?_, g2, g3⟩
  unfold mJobs
  refine zW_p 2 rfl ?_
  refine wV rfl rfl rfl rfl rfl rfl rfl (H.rc ha rfl rfl) g1 (by omega) ?_
  refine zW_p 1 rfl ?_
  refine hW_getr g2 rfl ha rfl rfl rfl f1 (fun b2 hb2 => ?_)
  refine zW_p 1 rfl ?_
  refine hW_lget (y := k) g2 rfl rfl rfl hb2 rfl rfl rfl (by rw [f7]; exact idl_at hk) rfl (by omega) (fun b3 hb3 => ?_)
  refine hW_cast g2 rfl hb3 rfl rfl rfl ?_
  refine hW_get g2 rfl hb3 rfl rfl rfl ?_
  rcases w1 with e | e | e
  · rw [e, if_neg (by decide)]
    refine zW_p 4 rfl ?_
    rw [I_add]
    exact zW_reti rfl rfl rfl ⟨rfl, rfl⟩
  · rw [e, if_neg (by decide)]
    refine zW_p 4 rfl ?_
    rw [I_add]
    exact zW_reti rfl rfl rfl ⟨rfl, rfl⟩
  · rw [e, if_pos rfl]
    refine zW_p 5 rfl ?_
    rw [I_add]
    exact zW_reti rfl rfl rfl ⟨rfl, rfl⟩
end ZMW
