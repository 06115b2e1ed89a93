/-! THE MODEL: orders asked, scrapped, withdrawn, promised -/
set_option maxRecDepth 100000
section ZMOQ
variable {g : zG} {w0 : hG} {σ : zS} {gh : Nat → Nat → Nat} {S T : hS} {J : zw_W} {a b o : Nat} {v : Int}
theorem M_stateOf (H : hRep g w0 σ gh S J) (hF : mFix S) (hO : mOrd S) (ha : hat gh S 11 0 a) (hv : rg v) : ∃ σ' : zS, zEnd g 4 246 [.ref a, iv v] σ (.inl (some (iv (if 0 ≤ v ∧ v < sn S 15 then sT S 15 5 v.toNat else 0)))) σ' ∧ hRep g w0 σ' gh (mt S (if 0 ≤ v ∧ v < sn S 15 then 0 else 1)) J ∧ kc σ σ' 0 0 := by
  obtain ⟨σ1, g1, H1, k1⟩ := M_failsOrder H hF ha hv
  obtain ⟨f0, f1, f2, f3, f4, f5, f6, f7, f8, f9, fa, fb, fc, fd, fe⟩ := hF
  have main : zW g 4 246 0 (lv_args 0 [.ref a, iv v]) [] σ (fun r σ' => r = .inl (some (iv (if 0 ≤ v ∧ v < sn S 15 then sT S 15 5 v.toNat else 0))) ∧ hRep g w0 σ' gh (mt S (if 0 ≤ v ∧ v < sn S 15 then 0 else 1)) J ∧ kc σ σ' 0 0) := by
    refine zW_p 2 rfl ?_
    refine wV rfl rfl rfl rfl rfl rfl rfl (H.rc ha rfl rfl) g1 (by omega) ?_
    by_cases hc : 0 ≤ v ∧ v < sn S 15
    · rw [decide_eq_true hc] at H1 ⊢
      rw [if_pos hc, if_pos hc]
      obtain ⟨i, rfl⟩ : ∃ i : Nat, v = i := ⟨v.toNat, (Int.toNat_of_nonneg hc.1).symm⟩
      rw [Int.toNat_natCast]
      have H1' : hRep g w0 σ1 gh (mt S 0) J := H1
      refine zW_p 2 rfl ?_
      refine hW_getr (j := 0) H1' rfl ha rfl rfl rfl f4 (fun b2 hb2 => ?_)
      refine zW_p 1 rfl ?_
      refine hW_lget (y := i) H1' rfl rfl rfl hb2 rfl rfl rfl (show (sE S 33 0)[i]? = _ by rw [fa]; exact idl_at (by omega)) rfl (by omega) (fun b3 hb3 => ?_)
      refine hW_cast H1' rfl hb3 rfl rfl rfl ?_
      refine hW_get H1' rfl hb3 rfl rfl rfl ?_
      have w1 : sT S 15 5 i = 45 ∨ sT S 15 5 i = 112 ∨ sT S 15 5 i = 119 ∨ sT S 15 5 i = 111 ∨ sT S 15 5 i = 102 ∨ sT S 15 5 i = 100 := (hO i (by omega)).1
      have e55 : sT (mt S 0) 15 5 i = sT S 15 5 i := rfl
      rw [e55]
      exact zW_reti rfl rfl (by rcases w1 with e | e | e | e | e | e <;> rw [e] <;> rfl) ⟨rfl, H1', kc.of k1⟩
    · rw [decide_eq_false hc] at H1 ⊢
      rw [if_neg hc, if_neg hc]
      refine zW_p 3 rfl ?_
      exact zW_reti rfl rfl rfl ⟨rfl, H1, kc.of k1⟩
  obtain ⟨r, σ', h1, rfl, h2⟩ := main
  exact ⟨σ', h1, h2⟩
theorem M_lotOf (H : hRep g w0 σ gh S J) (hF : mFix S) (ha : hat gh S 11 0 a) (hv : rg v) : ∃ σ' : zS, zEnd g 4 247 [.ref a, iv v] σ (.inl (some (iv (if mC2 S v (decide (0 ≤ sT S 15 12 v.toNat)) = 0 then sT S 14 0 (sT S 15 12 v.toNat).toNat else 0)))) σ' ∧ hRep g w0 σ' gh (mt S (mC2 S v (decide (0 ≤ sT S 15 12 v.toNat)))) J ∧ kc σ σ' 0 0 := by
  obtain ⟨σ1, g1, H1, k1⟩ := M_failsOrder H hF ha hv
  obtain ⟨f0, f1, f2, f3, f4, f5, f6, f7, f8, f9, fa, fb, fc, fd, fe⟩ := hF
  have main : zW g 4 247 0 (lv_args 0 [.ref a, iv v]) [] σ (fun r σ' => r = .inl (some (iv (if mC2 S v (decide (0 ≤ sT S 15 12 v.toNat)) = 0 then sT S 14 0 (sT S 15 12 v.toNat).toNat else 0))) ∧ hRep g w0 σ' gh (mt S (mC2 S v (decide (0 ≤ sT S 15 12 v.toNat)))) J ∧ kc σ σ' 0 0) := by
    unfold mC2
    refine zW_p 2 rfl ?_
    refine wV rfl rfl rfl rfl rfl rfl rfl (H.rc ha rfl rfl) g1 (by omega) ?_
    by_cases hc : 0 ≤ v ∧ v < sn S 15
    · rw [decide_eq_true hc] at H1 ⊢
      have hqq : ¬ ¬ (0 ≤ v ∧ v < sn S 15) := fun q => q hc
      rw [if_neg hqq]
      obtain ⟨i, rfl⟩ : ∃ i : Nat, v = i := ⟨v.toNat, (Int.toNat_of_nonneg hc.1).symm⟩
      rw [Int.toNat_natCast]
      have H1' : hRep g w0 σ1 gh (mt S 0) J := H1
      refine zW_p 3 rfl ?_
      refine hW_getr (j := 0) H1' rfl ha rfl rfl rfl f4 (fun b2 hb2 => ?_)
      refine zW_p 1 rfl ?_
      refine hW_lget (y := i) H1' rfl rfl rfl hb2 rfl rfl rfl (show (sE S 33 0)[i]? = _ by rw [fa]; exact idl_at (by omega)) rfl (by omega) (fun b3 hb3 => ?_)
      refine hW_cast H1' rfl hb3 rfl rfl rfl ?_
      have fin : ∀ (n : Int) (lv : zp_L), (n = 0 ∨ n = 2) → lvok [(0, .ref a), (1, iv i)] lv → (n = 0 → 0 ≤ sT S 15 12 i) → n = (if decide (0 ≤ sT S 15 12 i) = true then 0 else 2) → zW g 4 247 31 lv [iv n, .ref a] σ1 (fun r σ' => r = .inl (some (iv (if (if decide (0 ≤ sT S 15 12 i) = true then (0 : Int) else 2) = 0 then sT S 14 0 (sT S 15 12 i).toNat else 0))) ∧ hRep g w0 σ' gh (mt S (if decide (0 ≤ sT S 15 12 i) = true then 0 else 2)) J ∧ kc σ σ' 0 0) := by
        intro n lv hn hlv hm hne
        refine zW_ly hlv rfl ?_
        rw [← hne]
        obtain ⟨σ2, g2, H2, k2⟩ := M_fails (v := n) H1' (show hat gh (mt S 0) 11 0 a from ha) (by rcases hn with h | h <;> rw [h] <;> exact ⟨by decide, by decide⟩)
        refine wV rfl rfl rfl rfl rfl rfl rfl (H1'.rc (show hat gh (mt S 0) 11 0 a from ha) rfl rfl) g2 (by omega) ?_
        have em : sset (mt S 0) 11 0 0 n = mt S n := mt_mt
        rw [em] at H2
        rcases hn with h | h
        · subst h
          rw [if_pos rfl]
          have hl : sT S 15 12 i = ((sT S 15 12 i).toNat : Nat) := (Int.toNat_of_nonneg (hm rfl)).symm
          refine zW_p 2 rfl ?_
          refine hW_getr (j := 0) H2 rfl (show hat gh (mt S 0) 11 0 a from ha) rfl rfl rfl f4 (fun b5 hb5 => ?_)
          refine zW_p 1 rfl ?_
          refine hW_lget (y := i) H2 rfl rfl rfl hb5 rfl rfl rfl (show (sE S 33 0)[i]? = _ by rw [fa]; exact idl_at (by omega)) rfl (by omega) (fun b6 hb6 => ?_)
          refine hW_cast H2 rfl hb6 rfl rfl rfl ?_
          refine hW_getr H2 rfl hb6 rfl rfl rfl hl (fun b7 hb7 => ?_)
          refine hW_get H2 rfl hb7 rfl rfl rfl ?_
          exact zW_reti rfl rfl rfl ⟨rfl, H2, kc.of (k2.trans k1)⟩
        · subst h
          rw [if_neg (by decide)]
          refine zW_p 3 rfl ?_
          exact zW_reti rfl rfl rfl ⟨rfl, H2, kc.of (k2.trans k1)⟩
      by_cases hm : 0 ≤ sT S 15 12 i
      · refine hW_getr H1' rfl hb3 rfl rfl rfl (show sT S 15 12 i = ((sT S 15 12 i).toNat : Nat) from (Int.toNat_of_nonneg hm).symm) (fun b4 hb4 => ?_)
        refine zW_p 2 rfl ?_
        exact fin 0 _ (Or.inl rfl) ⟨rfl, rfl, trivial⟩ (fun _ => hm) (by rw [if_pos (decide_eq_true hm)])
      · refine hW_getn H1' rfl hb3 rfl rfl rfl (show sT S 15 12 i < 0 by omega) ?_
        refine zW_p 3 rfl ?_
        exact fin 2 _ (Or.inr rfl) ⟨rfl, rfl, trivial⟩ (fun q => by omega) (by rw [if_neg (by rw [decide_eq_false hm]; decide)])
    · rw [decide_eq_false hc] at H1 ⊢
      rw [if_pos hc, if_neg (by decide)]
      refine zW_p 3 rfl ?_
      exact zW_reti rfl rfl rfl ⟨rfl, H1, kc.of k1⟩
  obtain ⟨r, σ', h1, rfl, h2⟩ := main
  exact ⟨σ', h1, h2⟩
theorem M_finishedAt (H : hRep g w0 σ gh S J) (hF : mFix S) (hr : ∀ i : Nat, i < sn S 15 → rg (sT S 15 13 i)) (ha : hat gh S 11 0 a) (hv : rg v) : ∃ σ' : zS, zEnd g 5 248 [.ref a, iv v] σ (.inl (some (if mC2 S v (decide (0 ≤ sT S 15 13 v.toNat)) = 0 then iv (sT S 15 13 v.toNat) else iv 0))) σ' ∧ hRep g w0 σ' gh (if mC2 S v (decide (0 ≤ sT S 15 13 v.toNat)) = 0 then mt S 0 else mt S (mC2 S v (decide (0 ≤ sT S 15 13 v.toNat)))) J ∧ kc σ σ' 0 0 := by
  obtain ⟨σ1, g1, H1, k1⟩ := M_failsOrder H hF ha hv
  have hFx := hF
  obtain ⟨f0, f1, f2, f3, f4, f5, f6, f7, f8, f9, fa, fb, fc, fd, fe⟩ := hF
  have main : zW g 5 248 0 (lv_args 0 [.ref a, iv v]) [] σ (fun r σ' => r = .inl (some (if mC2 S v (decide (0 ≤ sT S 15 13 v.toNat)) = 0 then iv (sT S 15 13 v.toNat) else iv 0)) ∧ hRep g w0 σ' gh (if mC2 S v (decide (0 ≤ sT S 15 13 v.toNat)) = 0 then mt S 0 else mt S (mC2 S v (decide (0 ≤ sT S 15 13 v.toNat)))) J ∧ kc σ σ' 0 0) := by
    unfold mC2
    refine zW_p 2 rfl ?_
    refine wV rfl rfl rfl rfl rfl rfl rfl (H.rc ha rfl rfl) g1 (by omega) ?_
    by_cases hc : 0 ≤ v ∧ v < sn S 15
    · rw [decide_eq_true hc] at H1 ⊢
      have hqq : ¬ ¬ (0 ≤ v ∧ v < sn S 15) := fun q => q hc
      rw [if_neg hqq]
      obtain ⟨i, rfl⟩ : ∃ i : Nat, v = i := ⟨v.toNat, (Int.toNat_of_nonneg hc.1).symm⟩
      rw [Int.toNat_natCast]
      have hi : i < sn S 15 := by omega
      have H1' : hRep g w0 σ1 gh (mt S 0) J := H1
      refine zW_p 3 rfl ?_
      refine hW_getr (j := 0) H1' rfl ha rfl rfl rfl f4 (fun b2 hb2 => ?_)
      refine zW_p 1 rfl ?_
      refine hW_lget (y := i) H1' rfl rfl rfl hb2 rfl rfl rfl (show (sE S 33 0)[i]? = _ by rw [fa]; exact idl_at hi) rfl (by omega) (fun b3 hb3 => ?_)
      refine hW_cast H1' rfl hb3 rfl rfl rfl ?_
      generalize hcb : (decide (0 ≤ sT S 15 13 i)) = cb
      have fin : ∀ (n : Int) (lv : zp_L), (n = 0 ∨ n = 2) → lvok [(0, .ref a), (1, iv i)] lv → (n = 0 → cb = true) → n = (if cb = true then 0 else 2) → zW g 5 248 31 lv [iv n, .ref a] σ1 (fun r σ' => r = .inl (some (if (if cb = true then (0 : Int) else 2) = 0 then iv (sT S 15 13 i) else iv 0)) ∧ hRep g w0 σ' gh (if (if cb = true then (0 : Int) else 2) = 0 then mt S 0 else mt S (if cb = true then 0 else 2)) J ∧ kc σ σ' 0 0) := by
        intro n lv hn hlv hm hne
        refine zW_ly hlv rfl ?_
        rw [← hne]
        obtain ⟨σ2, g2, H2, k2⟩ := M_fails (v := n) H1' (show hat gh (mt S 0) 11 0 a from ha) (by rcases hn with h | h <;> rw [h] <;> exact ⟨by decide, by decide⟩)
        refine wV rfl rfl rfl rfl rfl rfl rfl (H1'.rc (show hat gh (mt S 0) 11 0 a from ha) rfl rfl) g2 (by omega) ?_
        have em : sset (mt S 0) 11 0 0 n = mt S n := mt_mt
        rw [em] at H2
        rcases hn with h | h
        · subst h
          rw [if_pos rfl, if_pos rfl]
          have hcb2 : (decide (0 ≤ sT S 15 13 i)) = true := by rw [hcb]; exact hm rfl
          refine zW_p 2 rfl ?_
          refine hW_getr (j := 0) H2 rfl (show hat gh (mt S 0) 11 0 a from ha) rfl rfl rfl f4 (fun b5 hb5 => ?_)
          refine zW_p 1 rfl ?_
          refine hW_lget (y := i) H2 rfl rfl rfl hb5 rfl rfl rfl (show (sE S 33 0)[i]? = _ by rw [fa]; exact idl_at hi) rfl (by omega) (fun b6 hb6 => ?_)
          refine hW_cast H2 rfl hb6 rfl rfl rfl ?_
          refine hW_get H2 rfl hb6 rfl rfl rfl ?_
          exact zW_reti rfl rfl rfl ⟨rfl, H2, kc.of (k2.trans k1)⟩
        · subst h
          rw [if_neg (by decide), if_neg (by decide)]
          refine zW_p 3 rfl ?_
          exact zW_reti rfl rfl rfl ⟨rfl, H2, kc.of (k2.trans k1)⟩
      refine hW_get H1' rfl hb3 rfl rfl rfl ?_
      have r13 : rg (sT (mt S 0) 15 13 i) := hr i hi
      by_cases hm : 0 ≤ sT S 15 13 i
      · refine zW_t rfl rfl ((I_ge0 r13).mpr hm) ?_
        refine zW_p 1 rfl ?_
        exact fin 0 _ (Or.inl rfl) ⟨rfl, rfl, trivial⟩ (fun _ => by rw [← hcb]; exact decide_eq_true hm) (by rw [← hcb, if_pos (decide_eq_true hm)])
      · refine zW_f rfl rfl (fun q => hm ((I_ge0 r13).mp q)) ?_
        refine zW_p 2 rfl ?_
        exact fin 2 _ (Or.inr rfl) ⟨rfl, rfl, trivial⟩ (fun q => by omega) (by rw [← hcb, if_neg (by rw [decide_eq_false hm]; decide)])
    · rw [decide_eq_false hc] at H1 ⊢
      rw [if_pos hc, if_neg (by decide), if_neg (by decide)]
      refine zW_p 3 rfl ?_
      exact zW_reti rfl rfl rfl ⟨rfl, H1, kc.of k1⟩
  obtain ⟨r, σ', h1, rfl, h2⟩ := main
  exact ⟨σ', h1, h2⟩

theorem M_deliveredCost (H : hRep g w0 σ gh S J) (hF : mFix S) (hO : mOrd S) (ha : hat gh S 11 0 a) (hv : rg v) : ∃ σ' : zS, zEnd g 5 258 [.ref a, iv v] σ (.inl (some (if mC2 S v (decide (sT S 15 5 v.toNat = 100)) = 0 then .long (Int64.ofInt (sT S 15 15 v.toNat)) else .long (Int64.ofInt 0)))) σ' ∧ hRep g w0 σ' gh (if mC2 S v (decide (sT S 15 5 v.toNat = 100)) = 0 then mt S 0 else mt S (mC2 S v (decide (sT S 15 5 v.toNat = 100)))) J ∧ kc σ σ' 0 0 := by
  obtain ⟨σ1, g1, H1, k1⟩ := M_failsOrder H hF ha hv
  have hFx := hF
  obtain ⟨f0, f1, f2, f3, f4, f5, f6, f7, f8, f9, fa, fb, fc, fd, fe⟩ := hF
  have main : zW g 5 258 0 (lv_args 0 [.ref a, iv v]) [] σ (fun r σ' => r = .inl (some (if mC2 S v (decide (sT S 15 5 v.toNat = 100)) = 0 then .long (Int64.ofInt (sT S 15 15 v.toNat)) else .long (Int64.ofInt 0))) ∧ hRep g w0 σ' gh (if mC2 S v (decide (sT S 15 5 v.toNat = 100)) = 0 then mt S 0 else mt S (mC2 S v (decide (sT S 15 5 v.toNat = 100)))) J ∧ kc σ σ' 0 0) := by
    unfold mC2
    refine zW_p 2 rfl ?_
    refine wV rfl rfl rfl rfl rfl rfl rfl (H.rc ha rfl rfl) g1 (by omega) ?_
    by_cases hc : 0 ≤ v ∧ v < sn S 15
    · rw [decide_eq_true hc] at H1 ⊢
      have hqq : ¬ ¬ (0 ≤ v ∧ v < sn S 15) := fun q => q hc
      rw [if_neg hqq]
      obtain ⟨i, rfl⟩ : ∃ i : Nat, v = i := ⟨v.toNat, (Int.toNat_of_nonneg hc.1).symm⟩
      rw [Int.toNat_natCast]
      have hi : i < sn S 15 := by omega
      have H1' : hRep g w0 σ1 gh (mt S 0) J := H1
      refine zW_p 3 rfl ?_
      refine hW_getr (j := 0) H1' rfl ha rfl rfl rfl f4 (fun b2 hb2 => ?_)
      refine zW_p 1 rfl ?_
      refine hW_lget (y := i) H1' rfl rfl rfl hb2 rfl rfl rfl (show (sE S 33 0)[i]? = _ by rw [fa]; exact idl_at hi) rfl (by omega) (fun b3 hb3 => ?_)
      refine hW_cast H1' rfl hb3 rfl rfl rfl ?_
      generalize hcb : (decide (sT S 15 5 i = 100)) = cb
      have fin : ∀ (n : Int) (lv : zp_L), (n = 0 ∨ n = 2) → lvok [(0, .ref a), (1, iv i)] lv → (n = 0 → cb = true) → n = (if cb = true then 0 else 2) → zW g 5 258 33 lv [iv n, .ref a] σ1 (fun r σ' => r = .inl (some (if (if cb = true then (0 : Int) else 2) = 0 then .long (Int64.ofInt (sT S 15 15 i)) else .long (Int64.ofInt 0))) ∧ hRep g w0 σ' gh (if (if cb = true then (0 : Int) else 2) = 0 then mt S 0 else mt S (if cb = true then 0 else 2)) J ∧ kc σ σ' 0 0) := by
        intro n lv hn hlv hm hne
        refine zW_ly hlv rfl ?_
        rw [← hne]
        obtain ⟨σ2, g2, H2, k2⟩ := M_fails (v := n) H1' (show hat gh (mt S 0) 11 0 a from ha) (by rcases hn with h | h <;> rw [h] <;> exact ⟨by decide, by decide⟩)
        refine wV rfl rfl rfl rfl rfl rfl rfl (H1'.rc (show hat gh (mt S 0) 11 0 a from ha) rfl rfl) g2 (by omega) ?_
        have em : sset (mt S 0) 11 0 0 n = mt S n := mt_mt
        rw [em] at H2
        rcases hn with h | h
        · subst h
          rw [if_pos rfl, if_pos rfl]
          have hcb2 : (decide (sT S 15 5 i = 100)) = true := by rw [hcb]; exact hm rfl
          refine zW_p 2 rfl ?_
          refine hW_getr (j := 0) H2 rfl (show hat gh (mt S 0) 11 0 a from ha) rfl rfl rfl f4 (fun b5 hb5 => ?_)
          refine zW_p 1 rfl ?_
          refine hW_lget (y := i) H2 rfl rfl rfl hb5 rfl rfl rfl (show (sE S 33 0)[i]? = _ by rw [fa]; exact idl_at hi) rfl (by omega) (fun b6 hb6 => ?_)
          refine hW_cast H2 rfl hb6 rfl rfl rfl ?_
          refine hW_get H2 rfl hb6 rfl rfl rfl ?_
          exact wW_ret rfl rfl rfl rfl ⟨rfl, H2, kc.of (k2.trans k1)⟩
        · subst h
          rw [if_neg (by decide), if_neg (by decide)]
          refine zW_p 3 rfl ?_
          exact wW_ret rfl rfl rfl rfl ⟨rfl, H2, kc.of (k2.trans k1)⟩
      refine hW_get H1' rfl hb3 rfl rfl rfl ?_
      have w1 : sT S 15 5 i = 45 ∨ sT S 15 5 i = 112 ∨ sT S 15 5 i = 119 ∨ sT S 15 5 i = 111 ∨ sT S 15 5 i = 102 ∨ sT S 15 5 i = 100 := (hO i hi).1
      have r5 : rg (sT (mt S 0) 15 5 i) := by
        show rg (sT S 15 5 i)
        rcases w1 with e | e | e | e | e | e <;> rw [e] <;> exact ⟨by decide, by decide⟩
      refine zW_p 1 rfl ?_
      by_cases hm : sT S 15 5 i = 100
      · refine zW_f rfl rfl (fun q => q (by show Int32.ofInt (sT S 15 5 i) = _; rw [hm]; rfl)) ?_
        refine zW_p 2 rfl ?_
        exact fin 0 _ (Or.inl rfl) ⟨rfl, rfl, trivial⟩ (fun _ => by rw [← hcb]; exact decide_eq_true hm) (by rw [← hcb, if_pos (decide_eq_true hm)])
      · refine zW_t rfl rfl (fun q => hm ((I_eq (b := 100) r5 ⟨by decide, by decide⟩).mp q)) ?_
        refine zW_p 1 rfl ?_
        exact fin 2 _ (Or.inr rfl) ⟨rfl, rfl, trivial⟩ (fun q => by omega) (by rw [← hcb, if_neg (by rw [decide_eq_false hm]; decide)])
    · rw [decide_eq_false hc] at H1 ⊢
      rw [if_pos hc, if_neg (by decide), if_neg (by decide)]
      refine zW_p 3 rfl ?_
      exact wW_ret rfl rfl rfl rfl ⟨rfl, H1, kc.of k1⟩
  obtain ⟨r, σ', h1, rfl, h2⟩ := main
  exact ⟨σ', h1, h2⟩

theorem M_withdraw (H : hRep g w0 σ gh S J) (hF : mFix S) (hO : mOrd S) (hO2 : mOrd2 S) (ha : hat gh S 11 0 a) (hv : rg v) : ∃ σ' : zS, zEnd g 5 233 [.ref a, iv v] σ (.inl (some (if mC2 S v (decide (sT S 15 5 v.toNat = 112)) = 0 then iv (mSumP S v.toNat (sE S 39 v.toNat).length) else iv 0))) σ' ∧ hRep g w0 σ' gh (if mC2 S v (decide (sT S 15 5 v.toNat = 112)) = 0 then mFree (mt S 0) v.toNat else mt S (mC2 S v (decide (sT S 15 5 v.toNat = 112)))) J ∧ kc σ σ' 0 0 := by
  obtain ⟨σ1, g1, H1, k1⟩ := M_failsOrder H hF ha hv
  have hFx := hF
  obtain ⟨f0, f1, f2, f3, f4, f5, f6, f7, f8, f9, fa, fb, fc, fd, fe⟩ := hF
  have main : zW g 5 233 0 (lv_args 0 [.ref a, iv v]) [] σ (fun r σ' => r = .inl (some (if mC2 S v (decide (sT S 15 5 v.toNat = 112)) = 0 then iv (mSumP S v.toNat (sE S 39 v.toNat).length) else iv 0)) ∧ hRep g w0 σ' gh (if mC2 S v (decide (sT S 15 5 v.toNat = 112)) = 0 then mFree (mt S 0) v.toNat else mt S (mC2 S v (decide (sT S 15 5 v.toNat = 112)))) J ∧ kc σ σ' 0 0) := by
    unfold mC2
    refine zW_p 2 rfl ?_
    refine wV rfl rfl rfl rfl rfl rfl rfl (H.rc ha rfl rfl) g1 (by omega) ?_
    by_cases hc : 0 ≤ v ∧ v < sn S 15
    · rw [decide_eq_true hc] at H1 ⊢
      have hqq : ¬ ¬ (0 ≤ v ∧ v < sn S 15) := fun q => q hc
      rw [if_neg hqq]
      obtain ⟨i, rfl⟩ : ∃ i : Nat, v = i := ⟨v.toNat, (Int.toNat_of_nonneg hc.1).symm⟩
      rw [Int.toNat_natCast]
      have hi : i < sn S 15 := by omega
      have H1' : hRep g w0 σ1 gh (mt S 0) J := H1
      refine zW_p 3 rfl ?_
      refine hW_getr (j := 0) H1' rfl ha rfl rfl rfl f4 (fun b2 hb2 => ?_)
      refine zW_p 1 rfl ?_
      refine hW_lget (y := i) H1' rfl rfl rfl hb2 rfl rfl rfl (show (sE S 33 0)[i]? = _ by rw [fa]; exact idl_at hi) rfl (by omega) (fun b3 hb3 => ?_)
      refine hW_cast H1' rfl hb3 rfl rfl rfl ?_
      generalize hcb : (decide (sT S 15 5 i = 112)) = cb
      have fin : ∀ (n : Int) (lv : zp_L), (n = 0 ∨ n = 2) → lvok [(0, .ref a), (1, iv i)] lv → (n = 0 → cb = true) → n = (if cb = true then 0 else 2) → zW g 5 233 33 lv [iv n, .ref a] σ1 (fun r σ' => r = .inl (some (if (if cb = true then (0 : Int) else 2) = 0 then iv (mSumP S i (sE S 39 i).length) else iv 0)) ∧ hRep g w0 σ' gh (if (if cb = true then (0 : Int) else 2) = 0 then mFree (mt S 0) i else mt S (if cb = true then 0 else 2)) J ∧ kc σ σ' 0 0) := by
        intro n lv hn hlv hm hne
        refine zW_ly hlv rfl ?_
        rw [← hne]
        obtain ⟨σ2, g2, H2, k2⟩ := M_fails (v := n) H1' (show hat gh (mt S 0) 11 0 a from ha) (by rcases hn with h | h <;> rw [h] <;> exact ⟨by decide, by decide⟩)
        refine wV rfl rfl rfl rfl rfl rfl rfl (H1'.rc (show hat gh (mt S 0) 11 0 a from ha) rfl rfl) g2 (by omega) ?_
        have em : sset (mt S 0) 11 0 0 n = mt S n := mt_mt
        rw [em] at H2
        rcases hn with h | h
        · subst h
          rw [if_pos rfl, if_pos rfl]
          have hcb2 : (decide (sT S 15 5 i = 112)) = true := by rw [hcb]; exact hm rfl
          refine zW_p 3 rfl ?_
          refine hW_getr (j := 0) H2 rfl (show hat gh (mt S 0) 11 0 a from ha) rfl rfl rfl f4 (fun b5 hb5 => ?_)
          refine zW_p 1 rfl ?_
          refine hW_lget (y := i) H2 rfl rfl rfl hb5 rfl rfl rfl (show (sE S 33 0)[i]? = _ by rw [fa]; exact idl_at hi) rfl (by omega) (fun b6 hb6 => ?_)
          refine hW_cast H2 rfl hb6 rfl rfl rfl ?_
          obtain ⟨σ3, g3, H3, k3⟩ := M_free (a := a) H2 (show mOrd2 (mt S 0) from hO2) hb6
          refine wV rfl rfl rfl rfl rfl rfl rfl (H2.rc (show hat gh (mt S 0) 11 0 a from ha) rfl rfl) g3 (by omega) ?_
          exact zW_reti rfl rfl rfl ⟨rfl, H3, kc.same (k2.trans k1) k3⟩
        · subst h
          rw [if_neg (by decide), if_neg (by decide)]
          refine zW_p 3 rfl ?_
          exact zW_reti rfl rfl rfl ⟨rfl, H2, kc.of (k2.trans k1)⟩
      refine hW_get H1' rfl hb3 rfl rfl rfl ?_
      have w1 : sT S 15 5 i = 45 ∨ sT S 15 5 i = 112 ∨ sT S 15 5 i = 119 ∨ sT S 15 5 i = 111 ∨ sT S 15 5 i = 102 ∨ sT S 15 5 i = 100 := (hO i hi).1
      have r5 : rg (sT (mt S 0) 15 5 i) := by
        show rg (sT S 15 5 i)
        rcases w1 with e | e | e | e | e | e <;> rw [e] <;> exact ⟨by decide, by decide⟩
      refine zW_p 1 rfl ?_
      by_cases hm : sT S 15 5 i = 112
      · refine zW_f rfl rfl (fun q => q (by show Int32.ofInt (sT S 15 5 i) = _; rw [hm]; rfl)) ?_
        refine zW_p 2 rfl ?_
        exact fin 0 _ (Or.inl rfl) ⟨rfl, rfl, trivial⟩ (fun _ => by rw [← hcb]; exact decide_eq_true hm) (by rw [← hcb, if_pos (decide_eq_true hm)])
      · refine zW_t rfl rfl (fun q => hm ((I_eq (b := 112) r5 ⟨by decide, by decide⟩).mp q)) ?_
        refine zW_p 1 rfl ?_
        exact fin 2 _ (Or.inr rfl) ⟨rfl, rfl, trivial⟩ (fun q => by omega) (by rw [← hcb, if_neg (by rw [decide_eq_false hm]; decide)])
    · rw [decide_eq_false hc] at H1 ⊢
      rw [if_pos hc, if_neg (by decide), if_neg (by decide)]
      refine zW_p 3 rfl ?_
      exact zW_reti rfl rfl rfl ⟨rfl, H1, kc.of k1⟩
  obtain ⟨r, σ', h1, rfl, h2⟩ := main
  exact ⟨σ', h1, h2⟩
end ZMOQ
