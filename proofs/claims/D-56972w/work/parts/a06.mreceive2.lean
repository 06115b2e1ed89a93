/-! THE MODEL: receive, its checks -/
set_option maxRecDepth 100000
section ZMRW
variable {g : zG} {w0 : hG} {z : Nat → Nat} {σ : zS} {gh : Nat → Nat → Nat} {S : hS} {J : zw_W} {a : Nat} {p q c s v : Int}
theorem M_receive (H : hRep g w0 σ gh S J) (C : hCon g w0 z) (hF : mFix S) (hP : mPart S) (hU : mSup z S) (ha : hat gh S 11 0 a) (h60 : rg (sT S 11 5 0)) (h99 : sT S 11 5 0 ≠ 60 → sn S 14 < 100) (hp : rg p) (hq : rg q) (hc : rg c) (hs : rg s) (hv : rg v) :
    zM g 9 206 [.ref a, iv p, iv q, iv c, iv s, iv v] σ (fun r σ' => (mRecvCode S p q c s v ≠ 0 ∧ r = .inl (some (iv 0)) ∧ hRep g w0 σ' gh (mt S (mRecvCode S p q c s v)) J ∧ kc σ σ' 0 0) ∨ (mRecvCode S p q c s v = 0 ∧ r = .inl (some (iv (sn S 14))) ∧ ∃ ghx, gext S gh ghx ∧ hRep g w0 σ' ghx (mReceive z S p q c s.toNat (decide (mLim (mRl S s.toNat) < v))) J ∧ kc σ σ' 4 500)) := by
  unfold mRecvCode
  refine zW_p 3 rfl ?_
  refine wV rfl rfl rfl rfl rfl rfl rfl (H.rc ha rfl rfl) (M_isPart H hF ha hp) (by omega) ?_
  by_cases h1 : 0 ≤ p ∧ p < sn S 13
  · rw [decide_eq_true h1, if_neg (fun e => e h1)]
    obtain ⟨i, rfl⟩ : ∃ i : Nat, p = i := ⟨p.toNat, (Int.toNat_of_nonneg h1.1).symm⟩
    rw [Int.toNat_natCast]
    have hi : i < sn S 13 := by omega
    obtain ⟨σ1, g1, H1, k1⟩ := M_fails (v := 0) H ha ⟨by decide, by decide⟩
    refine zW_p 3 rfl ?_
    refine wV rfl rfl rfl rfl rfl rfl rfl (H.rc ha rfl rfl) g1 (by omega) ?_
    refine zW_p 3 rfl ?_
    have hF1 : mFix (mt S 0) := hF
    have hfx := hF
    obtain ⟨f0, f1, f2, f3, f4, f5, f6, f7, f8, f9, fa, fb, fc, fd, fe⟩ := hF
    refine hW_getr (j := 0) H1 rfl ha rfl rfl rfl f2 (fun b1 hb1 => ?_)
    refine zW_p 1 rfl ?_
    refine hW_lget (y := i) H1 rfl rfl rfl hb1 rfl rfl rfl (show (sE S 31 0)[i]? = _ by rw [f8]; exact idl_at hi) rfl (by omega) (fun b2 hb2 => ?_)
    refine hW_cast H1 rfl hb2 rfl rfl rfl ?_
    refine hW_get H1 rfl hb2 rfl rfl rfl ?_
    have e0 : sT (sset S 11 0 0 0) 13 0 i = sT S 13 0 i := rfl
    rw [e0]
    generalize hk : (if sT S 13 0 i = 1 then (2 : Int) else if ¬ ((1 ≤ q ∧ q ≤ 500) ∧ (0 ≤ c ∧ c ≤ 999) ∧ (0 ≤ s ∧ s ≤ 3) ∧ (0 ≤ v ∧ v ≤ 20)) then 3 else if sT S 11 5 0 = 60 then 4 else 0) = k
    rcases (hP i hi).1 with e | e
    · rw [e]
      rw [if_neg (by omega)] at hk
      refine zW_p 2 rfl ?_
      obtain ⟨σ2, g2, H2, k2⟩ := M_fails (v := 0) H1 (show hat gh (sset S 11 0 0 0) 11 0 a from ha) ⟨by decide, by decide⟩
      refine wV rfl rfl rfl rfl rfl rfl rfl (H1.rc (show hat gh (sset S 11 0 0 0) 11 0 a from ha) rfl rfl) g2 (by omega) ?_
      have em : sset (sset S 11 0 0 0) 11 0 0 0 = mt S 0 := mt_mt
      rw [em] at H2
      have J1 : ∀ r : Bool, r = decide ((1 ≤ q ∧ q ≤ 500) ∧ (0 ≤ c ∧ c ≤ 999) ∧ (0 ≤ s ∧ s ≤ 3) ∧ (0 ≤ v ∧ v ≤ 20)) → zW g 9 206 99 [(0, .ref a), (1, iv i), (2, iv q), (3, iv c), (4, iv s), (5, iv v)] [iv (bi r)] σ2 (fun r σ' => (k ≠ 0 ∧ r = .inl (some (iv 0)) ∧ hRep g w0 σ' gh (mt S k) J ∧ kc σ σ' 0 0) ∨ (k = 0 ∧ r = .inl (some (iv (sn S 14))) ∧ ∃ ghx, gext S gh ghx ∧ hRep g w0 σ' ghx (mReceive z S i q c s.toNat (decide (mLim (mRl S s.toNat) < v))) J ∧ kc σ σ' 4 500)) := by
        intro r hr
        cases r with
        | false =>
          have hn := of_decide_eq_false hr.symm
          rw [if_pos hn] at hk
          refine zW_p 6 rfl ?_
          obtain ⟨σ3, g3, H3, k3⟩ := M_fails (v := 3) H2 (show hat gh (mt S 0) 11 0 a from ha) ⟨by decide, by decide⟩
          refine wV rfl rfl rfl rfl rfl rfl rfl (H2.rc (show hat gh (mt S 0) 11 0 a from ha) rfl rfl) g3 (by omega) ?_
          have em3 : sset (mt S 0) 11 0 0 3 = mt S 3 := mt_mt
          rw [em3] at H3
          refine zW_p 2 rfl ?_
          rw [← hk]
          exact zW_reti rfl rfl rfl (Or.inl ⟨by decide, rfl, H3, (((kc.of k1).trans (kc.of k2)).trans (kc.of k3)).mono (by omega) (by omega)⟩)
        | true =>
          have hy := of_decide_eq_true hr.symm
          rw [if_neg (fun e => e hy)] at hk
          refine zW_p 4 rfl ?_
          refine zW_p 1 rfl ?_
          refine hW_get H2 rfl ha rfl rfl rfl ?_
          have e5 : sT (mt S 0) 11 5 0 = sT S 11 5 0 := rfl
          rw [e5]
          refine zW_p 1 rfl ?_
          by_cases h6 : sT S 11 5 0 = 60
          · rw [if_pos h6] at hk
            refine zW_f rfl rfl (fun e => e (by rw [h6]; rfl)) ?_
            refine zW_p 2 rfl ?_
            obtain ⟨σ3, g3, H3, k3⟩ := M_fails (v := 4) H2 (show hat gh (mt S 0) 11 0 a from ha) ⟨by decide, by decide⟩
            refine wV rfl rfl rfl rfl rfl rfl rfl (H2.rc (show hat gh (mt S 0) 11 0 a from ha) rfl rfl) g3 (by omega) ?_
            have em3 : sset (mt S 0) 11 0 0 4 = mt S 4 := mt_mt
            rw [em3] at H3
            refine zW_p 2 rfl ?_
            rw [← hk]
            exact zW_reti rfl rfl rfl (Or.inl ⟨by decide, rfl, H3, (((kc.of k1).trans (kc.of k2)).trans (kc.of k3)).mono (by omega) (by omega)⟩)
          · rw [if_neg h6] at hk
            refine zW_t rfl rfl (fun e => h6 ((I_eq h60 ⟨by decide, by decide⟩).mp e)) ?_
            refine zW_p 1 rfl ?_
            obtain ⟨σ3, g3, H3, k3⟩ := M_fails (v := 0) H2 (show hat gh (mt S 0) 11 0 a from ha) ⟨by decide, by decide⟩
            refine wV rfl rfl rfl rfl rfl rfl rfl (H2.rc (show hat gh (mt S 0) 11 0 a from ha) rfl rfl) g3 (by omega) ?_
            have em3 : sset (mt S 0) 11 0 0 0 = mt S 0 := mt_mt
            rw [em3] at H3
            obtain ⟨t, rfl⟩ : ∃ t : Nat, s = t := ⟨s.toNat, (Int.toNat_of_nonneg hy.2.2.1.1).symm⟩
            rw [Int.toNat_natCast]
            refine zW_p 1 rfl ?_
            rw [← hk]
            refine zW_lv [(0, .ref a), (1, iv i), (2, iv q), (3, iv c), (4, iv t), (5, iv v)] rfl ⟨rfl, rfl, rfl, rfl, rfl, rfl, trivial⟩ ?_
            have := M_recvOk (p := i) (q := q) (c := c) (v := v) (t := t) H3 C hF1 hU ha (h99 h6) (by omega) hq hc hv (σ0 := σ) (gh0 := gh) (S0 := S) rfl gext_rfl ((((kc.of k1).trans (kc.of k2)).trans (kc.of k3)).mono (by omega) (by omega))
            exact this.mono (fun o σ' _ hh => Or.inr ⟨rfl, hh⟩)
      refine zW_p 4 rfl ?_
      refine wS rfl rfl rfl rfl rfl rfl rfl rfl rfl (M_in (lo := 1) (hi := 500) hq ⟨by decide, by decide⟩ ⟨by decide, by decide⟩) (by omega) ?_
      by_cases c1 : 1 ≤ q ∧ q ≤ 500
      · rw [decide_eq_true c1]
        refine zW_p 4 rfl ?_
        refine wS rfl rfl rfl rfl rfl rfl rfl rfl rfl (M_in (lo := 0) (hi := 999) hc ⟨by decide, by decide⟩ ⟨by decide, by decide⟩) (by omega) ?_
        by_cases c2 : 0 ≤ c ∧ c ≤ 999
        · rw [decide_eq_true c2]
          refine zW_p 4 rfl ?_
          refine wS rfl rfl rfl rfl rfl rfl rfl rfl rfl (M_in (lo := 0) (hi := 3) hs ⟨by decide, by decide⟩ ⟨by decide, by decide⟩) (by omega) ?_
          by_cases c3 : 0 ≤ s ∧ s ≤ 3
          · rw [decide_eq_true c3]
            refine zW_p 4 rfl ?_
            refine wS rfl rfl rfl rfl rfl rfl rfl rfl rfl (M_in (lo := 0) (hi := 20) hv ⟨by decide, by decide⟩ ⟨by decide, by decide⟩) (by omega) ?_
            by_cases c4 : 0 ≤ v ∧ v ≤ 20
            · rw [decide_eq_true c4]
              refine zW_p 3 rfl ?_
              exact J1 true (by rw [decide_eq_true ⟨c1, c2, c3, c4⟩])
            · rw [decide_eq_false c4]
              refine zW_p 2 rfl ?_
              exact J1 false (by rw [decide_eq_false (fun q => c4 q.2.2.2)])
          · rw [decide_eq_false c3]
            refine zW_p 2 rfl ?_
            exact J1 false (by rw [decide_eq_false (fun q => c3 q.2.2.1)])
        · rw [decide_eq_false c2]
          refine zW_p 2 rfl ?_
          exact J1 false (by rw [decide_eq_false (fun q => c2 q.2.1)])
      · rw [decide_eq_false c1]
        refine zW_p 2 rfl ?_
        exact J1 false (by rw [decide_eq_false (fun q => c1 q.1)])
    · rw [e]
      rw [if_pos e] at hk
      refine zW_p 3 rfl ?_
      obtain ⟨σ2, g2, H2, k2⟩ := M_fails (v := 2) H1 (show hat gh (sset S 11 0 0 0) 11 0 a from ha) ⟨by decide, by decide⟩
      refine wV rfl rfl rfl rfl rfl rfl rfl (H1.rc (show hat gh (sset S 11 0 0 0) 11 0 a from ha) rfl rfl) g2 (by omega) ?_
      have em : sset (sset S 11 0 0 0) 11 0 0 2 = mt S 2 := mt_mt
      rw [em] at H2
      refine zW_p 2 rfl ?_
      rw [← hk]
      exact zW_reti rfl rfl rfl (Or.inl ⟨by decide, rfl, H2, ((kc.of k1).trans (kc.of k2)).mono (by omega) (by omega)⟩)
  · rw [decide_eq_false h1, if_pos h1]
    obtain ⟨σ1, g1, H1, k1⟩ := M_fails (v := 1) H ha ⟨by decide, by decide⟩
    refine zW_p 2 rfl ?_
    refine wV rfl rfl rfl rfl rfl rfl rfl (H.rc ha rfl rfl) g1 (by omega) ?_
    refine zW_p 2 rfl ?_
    exact zW_reti rfl rfl rfl (Or.inl ⟨by decide, rfl, H1, kc.of k1⟩)
end ZMRW
