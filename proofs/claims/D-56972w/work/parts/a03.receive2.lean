/-! Foundrymark.receive -/
set_option maxRecDepth 100000
section ZRV2
variable {g : zG} {w0 : hG} {z : Nat → Nat} {σ : zS} {gh : Nat → Nat → Nat} {S : hS} {J : zw_W} {a : Nat} {p q c s v : Int}
theorem fRefuse_sn {x m r : Nat} {c' : Nat} : sn (fRefuse z S x m r v) c' = sn S c' := by
  unfold fRefuse
  split <;> rfl
theorem fRefuse_sT {x m r : Nat} {c' k' i' : Nat} (h : c' ≠ 9) : sT (fRefuse z S x m r v) c' k' i' = sT S c' k' i' := by
  unfold fRefuse
  split
  · rfl
  · rw [sT_ssE, sT_set, if_neg (fun e => h e.1)]
    rfl
theorem fRefuse_sE {x m r : Nat} {c' i' : Nat} (h : c' ≠ 28) : sE (fRefuse z S x m r v) c' i' = sE S c' i' := by
  unfold fRefuse
  split
  · rw [sE_ssE, if_neg (fun e => h e.1)]
  · rw [sE_ssE, if_neg (fun e => h e.1), sE_set, sE_ssE, if_neg (fun e => h e.1)]
def fRecvCode (S : hS) (p q c s v : Int) : Nat := if ¬ fIsP S p then 1 else if ¬ (fPc S p % 2 = 1) then 2 else if ¬ ((1 ≤ q ∧ q ≤ 500) ∧ (0 ≤ c ∧ c ≤ 999) ∧ (0 ≤ s ∧ s ≤ 3) ∧ (0 ≤ v ∧ v ≤ 20)) then 3 else if 60 ≤ sT S 0 5 0 then 4 else 0
def fRecv1 (S : hS) (p q c : Int) : hS := fAdd (snw (sset (sset S 0 5 0 (sT S 0 5 0 + 1)) 0 7 0 (sT S 0 7 0 + q * c)) 26 []) (fPc S p) q (q * c) (sn S 26)
def fReceive (z : Nat → Nat) (S : hS) (p q c s v : Int) : hS := sset (fRefuse z (fRecv1 S p q c) s.toNat s.toNat (fRl z S s.toNat) v) 6 7 (sn S 6) (bi (fIsR (fRl z S s.toNat) v))
theorem F_receive (H : hRep g w0 σ gh S J) (C : hCon g w0 z) (hF : fFix S) (hU : fSup z S) (ha : hat gh S 0 0 a) (h60 : rg (sT S 0 5 0)) (h99 : sT S 0 5 0 < 60 → sn S 6 < 100) (hp : rg p) (hq : rg q) (hc : rg c) (hs : rg s) (hv : rg v) :
    zM g 9 74 [.ref a, iv p, iv q, iv c, iv s, iv v] σ (fun r σ' => (fRecvCode S p q c s v ≠ 0 ∧ r = .inr (fEx4 (fRecvCode S p q c s v)) ∧ hRep g w0 σ' gh S J ∧ kc σ σ' 1 6) ∨ (fRecvCode S p q c s v = 0 ∧ r = .inl (some (iv (sn S 6))) ∧ ∃ ghx, gext S gh ghx ∧ hRep g w0 σ' ghx (fReceive z S p q c s v) J ∧ kc σ σ' 4 500)) := by
  unfold fRecvCode
  refine zW_p 2 rfl ?_
  by_cases h1 : fIsP S p
  · obtain ⟨i, rfl⟩ : ∃ i : Nat, p = i := ⟨p.toNat, (Int.toNat_of_nonneg h1.1).symm⟩
    have hi : i < (sE S 21 0).length := by have := h1.2; omega
    obtain ⟨b1, hb1, g1⟩ := F_part H hF ha (fPc_at hF hi)
    refine wV rfl rfl rfl rfl rfl rfl rfl (H.rc ha rfl rfl) g1 (by omega) ?_
    rw [if_neg (fun e => e h1)]
    generalize hk : (if ¬ (fPc S (i : Int) % 2 = 1) then 2 else if ¬ ((1 ≤ q ∧ q ≤ 500) ∧ (0 ≤ c ∧ c ≤ 999) ∧ (0 ≤ s ∧ s ≤ 3) ∧ (0 ≤ v ∧ v ≤ 20)) then 3 else if 60 ≤ sT S 0 5 0 then 4 else 0) = k
    refine zW_p 2 rfl ?_
    rcases (show fPc S i % 2 = 0 ∨ fPc S i % 2 = 1 by omega) with e | e
    · rw [e] at hb1
      rw [if_pos (by omega)] at hk
      refine hW_inst H rfl hb1 rfl rfl rfl (Or.inr ⟨_, rfl⟩) ?_
      obtain ⟨σ1, q1, q2, q3⟩ := F_reqF66 H
      exact wST rfl rfl rfl rfl rfl rfl rfl rfl rfl q1 (by omega) rfl (Or.inl ⟨by omega, by rw [← hk]; rfl, q2, q3⟩)
    · have hb1' := hb1
      rw [e] at hb1
      rw [if_neg (by omega)] at hk
      refine hW_inst H rfl hb1 rfl rfl rfl (Or.inl rfl) ?_
      refine wS rfl rfl rfl rfl rfl rfl rfl rfl rfl F_reqT66 (by omega) ?_
      have bad3 : k = 3 → zW g 9 74 62 [(0, .ref a), (1, iv i), (2, iv q), (3, iv c), (4, iv s), (5, iv v), (6, .ref b1)] [] σ (fun r σ' => (k ≠ 0 ∧ r = .inr (fEx4 k) ∧ hRep g w0 σ' gh S J ∧ kc σ σ' 1 6) ∨ (k = 0 ∧ r = .inl (some (iv (sn S 6))) ∧ ∃ ghx, gext S gh ghx ∧ hRep g w0 σ' ghx (fReceive z S i q c s v) J ∧ kc σ σ' 4 500)) := by
        intro hk2
        rw [hk2]
        obtain ⟨σ1, q1, q2, q3⟩ := F_reqF37 H
        refine zW_p 1 rfl ?_
        exact wST rfl rfl rfl rfl rfl rfl rfl rfl rfl q1 (by omega) rfl (Or.inl ⟨by decide, rfl, q2, q3⟩)
      refine zW_p 3 rfl ?_
      refine wS rfl rfl rfl rfl rfl rfl rfl rfl rfl (F_between (lo := 1) (hi := 500) hq ⟨by decide, by decide⟩ ⟨by decide, by decide⟩) (by omega) ?_
      by_cases c1 : 1 ≤ q ∧ q ≤ 500
      · rw [decide_eq_true c1]
        refine zW_p 4 rfl ?_
        refine wS rfl rfl rfl rfl rfl rfl rfl rfl rfl (F_between (lo := 0) (hi := 999) hc ⟨by decide, by decide⟩ ⟨by decide, by decide⟩) (by omega) ?_
        by_cases c2 : 0 ≤ c ∧ c ≤ 999
        · rw [decide_eq_true c2]
          refine zW_p 4 rfl ?_
          refine wS rfl rfl rfl rfl rfl rfl rfl rfl rfl (F_between (lo := 0) (hi := 3) hs ⟨by decide, by decide⟩ ⟨by decide, by decide⟩) (by omega) ?_
          by_cases c3 : 0 ≤ s ∧ s ≤ 3
          · rw [decide_eq_true c3]
            refine zW_p 4 rfl ?_
            refine wS rfl rfl rfl rfl rfl rfl rfl rfl rfl (F_between (lo := 0) (hi := 20) hv ⟨by decide, by decide⟩ ⟨by decide, by decide⟩) (by omega) ?_
            by_cases c4 : 0 ≤ v ∧ v ≤ 20
            · rw [decide_eq_true c4]
              rw [if_neg (fun q => q ⟨c1, c2, c3, c4⟩)] at hk
              refine zW_p 3 rfl ?_
              refine wS rfl rfl rfl rfl rfl rfl rfl rfl rfl F_reqT37 (by omega) ?_
              refine zW_p 1 rfl ?_
              refine hW_get H rfl ha rfl rfl rfl ?_
              refine zW_p 1 rfl ?_
              by_cases c5 : 60 ≤ sT S 0 5 0
              · rw [if_pos c5] at hk
                refine zW_t rfl rfl ((I_le ⟨by decide, by decide⟩ h60).mpr c5) ?_
                obtain ⟨σ1, q1, q2, q3⟩ := F_reqF39 H
                refine zW_p 1 rfl ?_
                exact wST rfl rfl rfl rfl rfl rfl rfl rfl rfl q1 (by omega) rfl (Or.inl ⟨by omega, by rw [← hk]; rfl, q2, q3⟩)
              · rw [if_neg c5] at hk
                refine zW_f rfl rfl (fun e => c5 ((I_le ⟨by decide, by decide⟩ h60).mp e)) ?_
                refine zW_p 2 rfl ?_
                refine wS rfl rfl rfl rfl rfl rfl rfl rfl rfl F_reqT39 (by omega) ?_
                refine zW_p 2 rfl ?_
                refine hW_get H rfl ha rfl rfl rfl ?_
                refine zW_p 2 rfl ?_
                rw [I_add]
                refine hW_put H rfl ha rfl rfl rfl (Or.inl rfl) rfl rfl rfl alv0 (fun e => absurd e (by decide)) (fun σ2 H2 e2 => ?_)
                refine zW_p 5 rfl ?_
                rw [L_of hq, L_of hc, L_mul]
                refine zW_p 3 rfl ?_
                refine hW_get H2 rfl ha rfl rfl rfl ?_
                refine zW_p 2 rfl ?_
                rw [sT_set, if_neg (by omega), L_add]
                refine hW_put H2 rfl ha rfl rfl rfl (Or.inl rfl) rfl rfl rfl alv1 (fun e => absurd e (by decide)) (fun σ3 H3 e3 => ?_)
                refine zW_p 4 rfl ?_
                refine hW_newL 26 H3 rfl rfl rfl rfl rfl rfl rfl rfl rfl (fun _ => rfl) (by omega) (fun σ4 b4 H4 hb4 k4 => ?_)
                have ha4 := hat.old (c' := 26) (b := b4) (xs := []) (hat.set (c' := 0) (k' := 7) (i' := 0) (v := sT S 0 7 0 + q * c) (hat.set (c' := 0) (k' := 5) (i' := 0) (v := sT S 0 5 0 + 1) ha))
                have hy4 := hat.old (c' := 26) (b := b4) (xs := []) (hat.set (c' := 0) (k' := 7) (i' := 0) (v := sT S 0 7 0 + q * c) (hat.set (c' := 0) (k' := 5) (i' := 0) (v := sT S 0 5 0 + 1) hb1'))
                have hF4 : fFix (snw (sset (sset S 0 5 0 (sT S 0 5 0 + 1)) 0 7 0 (sT S 0 7 0 + q * c)) 26 []) := hF
                obtain ⟨σ5, b5, g5, ghx, x5, H5, hb5, k5⟩ := F_add (y := fPc S i) (q := q) (c := q * c) H4 hF4 ha4 hy4 hb4
                refine wV rfl rfl rfl rfl rfl rfl rfl (H4.rc ha4 rfl rfl) g5 (by omega) ?_
                have H5' : hRep g w0 σ5 ghx (fRecv1 S i q c) J := H5
                have hb5' : hat ghx (fRecv1 S i q c) 6 (sn S 6) b5 := hb5
                have le5 : ∀ c' : Nat, sn (snw (sset (sset S 0 5 0 (sT S 0 5 0 + 1)) 0 7 0 (sT S 0 7 0 + q * c)) 26 []) c' ≤ sn (fRecv1 S i q c) c' := fun c' => by
                  show _ ≤ sn (snw (snw (sset (sset S 0 5 0 (sT S 0 5 0 + 1)) 0 7 0 (sT S 0 7 0 + q * c)) 26 []) 6 []) c'
                  exact sn_w_le
                have ha5 : hat ghx (fRecv1 S i q c) 0 0 a := x5.hat le5 ha4
                obtain ⟨t, rfl⟩ : ∃ t : Nat, s = t := ⟨s.toNat, (Int.toNat_of_nonneg c3.1).symm⟩
                have ht4 : t < 4 := by omega
                obtain ⟨u1, u2, u3⟩ := hU
                obtain ⟨⟨r, r6, r9, hr⟩, v2, v3, v4⟩ := u3 t ht4
                refine zW_p 3 rfl ?_
                refine hW_getr (j := 0) H5' rfl ha5 rfl rfl rfl (by show sT S 0 4 0 = _; exact hF.2.2.2.2.2.1) (fun b6 hb6 => ?_)
                refine zW_p 1 rfl ?_
                have e48 : sE (fRecv1 S i q c) 48 0 = sE S 48 0 := rfl
                refine hW_aald (y := t) H5' rfl hb6 (by rw [e48, u2]; exact idl_at ht4) (by rw [e48, u2, idl_len]; omega) (fun b7 hb7 => ?_)
                refine zW_p 1 rfl ?_
                have e9 : ∀ k' : Nat, sT (fRecv1 S i q c) 9 k' t = sT S 9 k' t := fun k' => rfl
                have e28 : sE (fRecv1 S i q c) 28 t = sE S 28 t := rfl
                have hrl : fRl z S t = r := by unfold fRl; rw [hr, rNo_z C r6 r9]
                obtain ⟨σ8, g8, H8, k8⟩ := F_refuses (x := t) (m := t) (r := r) (v := v) H5' C hb7 r6 r9 (by rw [e9]; exact hr) (by rw [e9]; exact v2) (by rw [e28]; exact v3) (by rw [e28]; omega) hv
                refine wV rfl rfl rfl rfl rfl rfl rfl (H5'.rc hb7 rfl rfl) g8 (by omega) ?_
                rw [e28] at k8
                have hb8 : hat ghx (fRefuse z (fRecv1 S i q c) t t r v) 6 (sn S 6) b5 := ⟨by rw [fRefuse_sn]; exact hb5'.1, hb5'.2⟩
                refine hW_put (v := bi (fIsR r v)) H8 rfl hb8 rfl rfl rfl (Or.inl rfl) (by cases fIsR r v <;> rfl) (by cases fIsR r v <;> rfl) rfl alv0 (fun e => absurd e (by decide)) (fun σ9 H9 e9 => ?_)
                refine zW_p 1 rfl ?_
                refine hW_get H9 rfl hb8 rfl rfl rfl ?_
                have en : sT (sset (fRefuse z (fRecv1 S i q c) t t r v) 6 7 (sn S 6) (bi (fIsR r v))) 6 0 (sn S 6) = (sn S 6 : Int) := by
                  rw [sT_set, if_neg (by omega), fRefuse_sT (by decide)]
                  unfold fRecv1 fAdd kFLot
                  simp only [sT_ssE, sT_set]
                  simp [sn_w, sn_set]
                rw [en]
                have hk9 : kc σ σ9 4 500 := ((((((kc.of e2).trans (kc.of e3)).trans k4).trans k5).trans k8).trans (kc.of e9)).mono (by omega) (by omega)
                have ef : fReceive z S i q c t v = sset (fRefuse z (fRecv1 S i q c) t t r v) 6 7 (sn S 6) (bi (fIsR r v)) := by
                  unfold fReceive
                  rw [Int.toNat_natCast, hrl]
                rw [← hk, ef]
                refine zW_reti rfl rfl rfl (Or.inr ⟨rfl, rfl, ghx, ?_, H9, hk9⟩)
                exact gext.trans (gext_w gext_rfl (fun _ => Nat.le_refl _)) x5 (fun c => sn_w_le (xs := []))
            · rw [decide_eq_false c4]
              refine zW_p 1 rfl ?_
              exact zW_lx (bad3 (by rw [← hk, if_pos (fun q => c4 q.2.2.2)])) rfl ⟨rfl, rfl, rfl, rfl, rfl, rfl, rfl, trivial⟩
          · rw [decide_eq_false c3]
            refine zW_p 1 rfl ?_
            exact zW_lx (bad3 (by rw [← hk, if_pos (fun q => c3 q.2.2.1)])) rfl ⟨rfl, rfl, rfl, rfl, rfl, rfl, rfl, trivial⟩
        · rw [decide_eq_false c2]
          refine zW_p 1 rfl ?_
          exact zW_lx (bad3 (by rw [← hk, if_pos (fun q => c2 q.2.1)])) rfl ⟨rfl, rfl, rfl, rfl, rfl, rfl, rfl, trivial⟩
      · rw [decide_eq_false c1]
        refine zW_p 1 rfl ?_
        exact zW_lx (bad3 (by rw [← hk, if_pos (fun q => c1 q.1)])) rfl ⟨rfl, rfl, rfl, rfl, rfl, rfl, rfl, trivial⟩
  · obtain ⟨σ1, q1, q2, q3⟩ := F_partX H hF ha hp h1
    rw [if_pos h1]
    exact wVT rfl rfl rfl rfl rfl rfl rfl (H.rc ha rfl rfl) q1 (by omega) rfl (Or.inl ⟨by decide, rfl, q2, q3⟩)
end ZRV2
