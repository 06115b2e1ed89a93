/-! THE MODEL: scrap -/
set_option maxRecDepth 100000
section ZMS2
variable {g : zG} {w0 : hG} {z : Nat → Nat} {σ : zS} {gh : Nat → Nat → Nat} {S T : hS} {J : zw_W} {a b o : Nat} {u v n : Int}
def mScC (S : hS) (v n : Int) : Int := if ¬ (0 ≤ v ∧ v < sn S 15) then 1 else if ¬ (sT S 15 5 v.toNat = 119 ∨ sT S 15 5 v.toNat = 111) then 2 else if ¬ (1 ≤ n ∧ n ≤ sT S 15 8 v.toNat) then 3 else 0
theorem M_scrap (H : hRep g w0 σ gh S J) (hF : mFix S) (hO : mOrd S) (h8 : ∀ o : Nat, o < sn S 15 → rg (sT S 15 8 o)) (ha : hat gh S 11 0 a) (hv : rg v) (hn : rg n) :
    ∃ σ' : zS, zEnd g 4 241 [.ref a, iv v, iv n] σ (.inl (some (iv (if mScC S v n = 0 then sT S 15 8 v.toNat - n else 0)))) σ' ∧ hRep g w0 σ' gh (if mScC S v n = 0 then sset (mt S 0) 15 8 v.toNat (sT S 15 8 v.toNat - n) else mt S (mScC S v n)) J ∧ kc σ σ' 0 0 := by
  obtain ⟨σ1, g1, H1, k1⟩ := M_failsOrder H hF ha hv
  obtain ⟨f0, f1, f2, f3, f4, f5, f6, f7, f8, f9, fa, fb, fc, fd, fe⟩ := hF
  have main : zW g 4 241 0 (lv_args 0 [.ref a, iv v, iv n]) [] σ (fun r σ' => r = .inl (some (iv (if mScC S v n = 0 then sT S 15 8 v.toNat - n else 0))) ∧ hRep g w0 σ' gh (if mScC S v n = 0 then sset (mt S 0) 15 8 v.toNat (sT S 15 8 v.toNat - n) else mt S (mScC S v n)) J ∧ kc σ σ' 0 0) := by
    refine zW_p 2 rfl ?_
    refine wV rfl rfl rfl rfl rfl rfl rfl (H.rc ha rfl rfl) g1 (by omega) ?_
    by_cases hc : 0 ≤ v ∧ v < sn S 15
    · rw [decide_eq_true hc] at H1 ⊢
      obtain ⟨i, rfl⟩ : ∃ i : Nat, v = i := ⟨v.toNat, (Int.toNat_of_nonneg hc.1).symm⟩
      have hi : i < sn S 15 := by omega
      have H1' : hRep g w0 σ1 gh (mt S 0) J := H1
      have hr5 : rg (sT (mt S 0) 15 5 i) := by
        show rg (sT S 15 5 i)
        rcases (hO i hi).1 with e | e | e | e | e | e <;> rw [e] <;> constructor <;> decide
      refine zW_p 2 rfl ?_
      refine hW_getr (j := 0) H1' rfl ha rfl rfl rfl f4 (fun b2 hb2 => ?_)
      refine zW_p 1 rfl ?_
      refine hW_lget (y := i) H1' rfl rfl rfl hb2 rfl rfl rfl (show (sE S 33 0)[i]? = _ by rw [fa]; exact idl_at hi) rfl (by omega) (fun b3 hb3 => ?_)
      refine hW_cast H1' rfl hb3 rfl rfl rfl ?_
      have fin : ∀ (m : Int) (lv : zp_L), (m = 0 ∨ m = 2 ∨ m = 3) → mScC S i n = m → lvok [(0, .ref a), (2, iv n), (3, .ref b3)] lv → zW g 4 241 62 lv [iv m, .ref a] σ1 (fun r σ' => r = .inl (some (iv (if mScC S i n = 0 then sT S 15 8 (i : Int).toNat - n else 0))) ∧ hRep g w0 σ' gh (if mScC S i n = 0 then sset (mt S 0) 15 8 (i : Int).toNat (sT S 15 8 (i : Int).toNat - n) else mt S (mScC S i n)) J ∧ kc σ σ' 0 0) := by
        intro m lv hm hmc hlv
        refine zW_ly hlv rfl ?_
        rw [hmc, Int.toNat_natCast]
        obtain ⟨σ2, g2, H2, k2⟩ := M_fails (v := m) H1' (show hat gh (mt S 0) 11 0 a from ha) (by rcases hm with h | h | h <;> rw [h] <;> exact ⟨by decide, by decide⟩)
        refine wV rfl rfl rfl rfl rfl rfl rfl (H1'.rc (show hat gh (mt S 0) 11 0 a from ha) rfl rfl) g2 (by omega) ?_
        have em : sset (mt S 0) 11 0 0 m = mt S m := mt_mt
        rw [em] at H2
        rcases hm with h | h | h
        · subst h
          rw [if_pos rfl, if_pos rfl]
          refine zW_p 3 rfl ?_
          refine hW_get H2 rfl hb3 rfl rfl rfl ?_
          refine zW_p 2 rfl ?_
          rw [I_sub]
          refine hW_put (v := sT S 15 8 i - n) H2 rfl hb3 rfl rfl rfl (Or.inl rfl) rfl rfl rfl alv0 (fun e => absurd e (by decide)) (fun σ3 H3 e3 => ?_)
          refine zW_p 1 rfl ?_
          refine hW_get H3 rfl hb3 rfl rfl rfl ?_
          rw [sT_set, if_pos ⟨rfl, rfl, rfl⟩]
          exact zW_reti rfl rfl rfl ⟨rfl, H3, kc.of (e3.trans (k2.trans k1))⟩
        · subst h
          rw [if_neg (by decide), if_neg (by decide)]
          refine zW_p 2 rfl ?_
          exact zW_reti rfl rfl rfl ⟨rfl, H2, kc.of (k2.trans k1)⟩
        · subst h
          rw [if_neg (by decide), if_neg (by decide)]
          refine zW_p 2 rfl ?_
          exact zW_reti rfl rfl rfl ⟨rfl, H2, kc.of (k2.trans k1)⟩
      have good : ∀ lv : zp_L, (sT S 15 5 i = 119 ∨ sT S 15 5 i = 111) → lvok [(0, .ref a), (2, iv n), (3, .ref b3)] lv → zW g 4 241 45 lv [.ref a] σ1 (fun r σ' => r = .inl (some (iv (if mScC S i n = 0 then sT S 15 8 (i : Int).toNat - n else 0))) ∧ hRep g w0 σ' gh (if mScC S i n = 0 then sset (mt S 0) 15 8 (i : Int).toNat (sT S 15 8 (i : Int).toNat - n) else mt S (mScC S i n)) J ∧ kc σ σ' 0 0) := by
        intro lv hst hlv
        refine zW_ly hlv rfl ?_
        refine zW_p 3 rfl ?_
        refine hW_get H1' rfl hb3 rfl rfl rfl ?_
        refine wS rfl rfl rfl rfl rfl rfl rfl rfl rfl (M_in (lo := 1) (hi := sT S 15 8 i) hn ⟨by decide, by decide⟩ (h8 i hi)) (by omega) ?_
        have hq1 : ¬ ¬ (0 ≤ (i : Int) ∧ (i : Int) < sn S 15) := fun q => q hc
        have hq2 : ¬ ¬ (sT S 15 5 i = 119 ∨ sT S 15 5 i = 111) := fun q => q hst
        by_cases c1 : 1 ≤ n ∧ n ≤ sT S 15 8 i
        · rw [decide_eq_true c1]
          have hq3 : ¬ ¬ (1 ≤ n ∧ n ≤ sT S 15 8 i) := fun q => q c1
          refine zW_p 2 rfl ?_
          exact fin 0 _ (Or.inl rfl) (by unfold mScC; rw [Int.toNat_natCast, if_neg hq1, if_neg hq2, if_neg hq3]) ⟨rfl, rfl, rfl, trivial⟩
        · rw [decide_eq_false c1]
          refine zW_p 3 rfl ?_
          exact fin 3 _ (Or.inr (Or.inr rfl)) (by unfold mScC; rw [Int.toNat_natCast, if_neg hq1, if_neg hq2, if_pos c1]) ⟨rfl, rfl, rfl, trivial⟩
      refine zW_p 3 rfl ?_
      refine hW_get H1' rfl hb3 rfl rfl rfl ?_
      refine zW_p 1 rfl ?_
      by_cases e1 : sT S 15 5 i = 119
      · refine zW_t rfl rfl ((I_eq hr5 (by constructor <;> decide)).2 e1) ?_
        exact good _ (Or.inl e1) ⟨rfl, rfl, rfl, trivial⟩
      · refine zW_f rfl rfl (fun q => e1 ((I_eq hr5 (by constructor <;> decide)).1 q)) ?_
        refine zW_p 1 rfl ?_
        refine hW_get H1' rfl hb3 rfl rfl rfl ?_
        refine zW_p 1 rfl ?_
        by_cases e2 : sT S 15 5 i = 111
        · refine zW_t rfl rfl ((I_eq hr5 (by constructor <;> decide)).2 e2) ?_
          exact good _ (Or.inr e2) ⟨rfl, rfl, rfl, trivial⟩
        · refine zW_f rfl rfl (fun q => e2 ((I_eq hr5 (by constructor <;> decide)).1 q)) ?_
          refine zW_p 2 rfl ?_
          have hq1 : ¬ ¬ (0 ≤ (i : Int) ∧ (i : Int) < sn S 15) := fun q => q hc
          have hq2 : ¬ (sT S 15 5 i = 119 ∨ sT S 15 5 i = 111) := fun q => q.elim e1 e2
          exact fin 2 _ (Or.inr (Or.inl rfl)) (by unfold mScC; rw [Int.toNat_natCast, if_neg hq1, if_pos hq2]) ⟨rfl, rfl, rfl, trivial⟩
    · rw [decide_eq_false hc] at H1 ⊢
      have e : mScC S v n = 1 := by unfold mScC; rw [if_pos hc]
      rw [e, if_neg (by decide), if_neg (by decide)]
      refine zW_p 2 rfl ?_
      exact zW_reti rfl rfl rfl ⟨rfl, H1, kc.of k1⟩
  obtain ⟨r, σ', h1, rfl, h2⟩ := main
  exact ⟨σ', h1, h2⟩
end ZMS2
