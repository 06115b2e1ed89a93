/-! ORDERS are made: both classes; Component.isFor -/
set_option maxRecDepth 100000
section ZOR
variable {g : zG} {w0 : hG} {z : Nat → Nat} {σ : zS} {gh : Nat → Nat → Nat} {S : hS} {J : zw_W} {a : Nat}
theorem hRep.freshQ (H : hRep g w0 σ gh S J) {q : Nat} (hq : q < sn S 45) : ((sn S 8 : Nat) : Int) ∉ sE S 45 q := by
  intro h
  have := ((H.2.2.2.2.2.1 45 q (by omega) hq _ h) (by omega)).2 8 rfl
  simp at this
def fOrderCode (S : hS) (p q o d : Int) : Nat := if ¬ fIsP S p then 1 else if ¬ ((1 ≤ q ∧ q ≤ 100) ∧ (0 ≤ o ∧ o ≤ 2) ∧ (0 ≤ d ∧ d ≤ 9999)) then 3 else if 30 ≤ sn S 8 then 4 else 0
def fOrderS (z : Nat → Nat) (S : hS) (p q o d : Int) : hS := ssE (kFOrder (snw S 8 []) (sn S 8) (sn S 8) q o d (fPc S p) (z 0)) 23 0 (sE S 23 0 ++ [(sn S 8 : Int)])
theorem F_order {p q o d : Int} (H : hRep g w0 σ gh S J) (C : hCon g w0 z) (hF : fFix S) (ha : hat gh S 0 0 a) (hp : rg p) (hq : rg q) (ho : rg o) (hd : rg d) :
    zM g 8 107 [.ref a, iv p, iv q, iv o, iv d] σ (fun r σ' => (fOrderCode S p q o d ≠ 0 ∧ r = .inr (fEx4 (fOrderCode S p q o d)) ∧ hRep g w0 σ' gh S J ∧ kc σ σ' 1 6) ∨ (fOrderCode S p q o d = 0 ∧ r = .inl (some (iv (sn S 8))) ∧ ∃ ghx, gext S gh ghx ∧ hRep g w0 σ' ghx (fOrderS z S p q o d) J ∧ kc σ σ' 4 200)) := by
  unfold fOrderCode
  refine zW_p 2 rfl ?_
  by_cases h1 : fIsP S p
  · obtain ⟨i, rfl⟩ : ∃ i : Nat, p = i := ⟨p.toNat, (Int.toNat_of_nonneg h1.1).symm⟩
    have hi : i < (sE S 21 0).length := by have := h1.2; omega
    obtain ⟨b1, hb1, g1⟩ := F_part H hF ha (fPc_at hF hi)
    refine wV rfl rfl rfl rfl rfl rfl rfl (H.rc ha rfl rfl) g1 (by omega) ?_
    rw [if_neg (fun e => e h1)]
    generalize hk : (if ¬ ((1 ≤ q ∧ q ≤ 100) ∧ (0 ≤ o ∧ o ≤ 2) ∧ (0 ≤ d ∧ d ≤ 9999)) then 3 else if 30 ≤ sn S 8 then 4 else 0) = k
    have hfx := hF
    obtain ⟨f0, f1, f2, f3, f4, f5, f6, f7, f8, f9, fa, fb, fc, fd⟩ := hF
    have bad3 : k = 3 → zW g 8 107 42 [(0, .ref a), (1, iv i), (2, iv q), (3, iv o), (4, iv d), (5, .ref b1)] [] σ (fun r σ' => (k ≠ 0 ∧ r = .inr (fEx4 k) ∧ hRep g w0 σ' gh S J ∧ kc σ σ' 1 6) ∨ (k = 0 ∧ r = .inl (some (iv (sn S 8))) ∧ ∃ ghx, gext S gh ghx ∧ hRep g w0 σ' ghx (fOrderS z S i q o d) J ∧ kc σ σ' 4 200)) := by
      intro hk2
      rw [hk2]
      obtain ⟨σ1, q1, q2, q3⟩ := F_reqF37 H
      refine zW_p 1 rfl ?_
      exact wST rfl rfl rfl rfl rfl rfl rfl rfl rfl q1 (by omega) rfl (Or.inl ⟨by decide, rfl, q2, q3⟩)
    refine zW_p 4 rfl ?_
    refine wS rfl rfl rfl rfl rfl rfl rfl rfl rfl (F_between (lo := 1) (hi := 100) hq ⟨by decide, by decide⟩ ⟨by decide, by decide⟩) (by omega) ?_
    by_cases c1 : 1 ≤ q ∧ q ≤ 100
    · rw [decide_eq_true c1]
      refine zW_p 4 rfl ?_
      refine wS rfl rfl rfl rfl rfl rfl rfl rfl rfl (F_between (lo := 0) (hi := 2) ho ⟨by decide, by decide⟩ ⟨by decide, by decide⟩) (by omega) ?_
      by_cases c2 : 0 ≤ o ∧ o ≤ 2
      · rw [decide_eq_true c2]
        refine zW_p 4 rfl ?_
        refine wS rfl rfl rfl rfl rfl rfl rfl rfl rfl (F_between (lo := 0) (hi := 9999) hd ⟨by decide, by decide⟩ ⟨by decide, by decide⟩) (by omega) ?_
        by_cases c3 : 0 ≤ d ∧ d ≤ 9999
        · rw [decide_eq_true c3]
          rw [if_neg (fun q => q ⟨c1, c2, c3⟩)] at hk
          refine zW_p 3 rfl ?_
          refine wS rfl rfl rfl rfl rfl rfl rfl rfl rfl F_reqT37 (by omega) ?_
          refine zW_p 1 rfl ?_
          refine hW_getr (j := 0) H rfl ha rfl rfl rfl f4 (fun b2 hb2 => ?_)
          refine hW_size H rfl rfl rfl hb2 rfl rfl rfl (by omega) ?_
          rw [f8, idl_len]
          refine zW_p 1 rfl ?_
          by_cases c5 : 30 ≤ sn S 8
          · rw [if_pos c5] at hk
            refine zW_t rfl rfl ((I_le (a := 30) ⟨by decide, by decide⟩ ⟨by omega, by omega⟩).mpr (by omega)) ?_
            obtain ⟨σ1, q1, q2, q3⟩ := F_reqF39 H
            refine zW_p 1 rfl ?_
            exact wST rfl rfl rfl rfl rfl rfl rfl rfl rfl q1 (by omega) rfl (Or.inl ⟨by omega, by rw [← hk]; rfl, q2, q3⟩)
          · rw [if_neg c5] at hk
            refine zW_f rfl rfl (fun e => by have := (I_le (a := 30) ⟨by decide, by decide⟩ ⟨by omega, by omega⟩).mp e; omega) ?_
            refine zW_p 2 rfl ?_
            refine wS rfl rfl rfl rfl rfl rfl rfl rfl rfl F_reqT39 (by omega) ?_
            refine zW_p 1 rfl ?_
            refine hW_getr (j := 0) H rfl ha rfl rfl rfl f4 (fun b3 hb3 => ?_)
            have hfr := fun q (hq : q < sn S 45) => H.freshQ hq
            refine hW_new H rfl rfl rfl rfl rfl rfl (fun σ4 b4 H4 hb4 k4 => ?_)
            refine zW_p 2 rfl ?_
            refine hW_getr (j := 0) H4 rfl ha.old rfl rfl rfl f4 (fun b5 hb5 => ?_)
            refine hW_size H4 rfl rfl rfl hb5 rfl rfl rfl (by omega) ?_
            have eL : sE (snw S 8 []) 23 0 = sE S 23 0 := rfl
            rw [eL, f8, idl_len]
            refine zW_p 4 rfl ?_
            obtain ⟨σ6, g6, ghx, x6, H6, k6⟩ := F_newOrder (p := (sn S 8 : Nat)) (q := q) (r := o) (t := d) H4 hb4 (y := fPc S i) (yb := b1) hb1.old (fun q hq => hfr q hq) (C.1 0 (by decide)).1
            refine wI rfl rfl rfl rfl rfl rfl rfl rfl rfl g6 (by omega) ?_
            have le6 : ∀ c', sn (snw S 8 []) c' ≤ sn (kFOrder (snw S 8 []) (sn S 8) (sn S 8 : Nat) q o d (fPc S i) (z 0)) c' := fun c' => by
              show _ ≤ sn (snw (snw (snw S 8 []) 26 []) 27 []) c'
              exact Nat.le_trans sn_w_le sn_w_le
            have hb4x := x6.hat le6 hb4
            have hb3x := x6.hat le6 hb3.old
            have hax := x6.hat le6 ha.old
            have eL2 : sE (kFOrder (snw S 8 []) (sn S 8) (sn S 8 : Nat) q o d (fPc S i) (z 0)) 23 0 = sE S 23 0 := rfl
            refine hW_add (x := (sn S 8 : Int)) H6 rfl rfl rfl hb3x rfl rfl rfl (elrepR hb4x) (alvR hb4x.1) (by rw [eL2, f8, idl_len]; omega) rfl (by omega) (fun σ7 H7 k7 => ?_)
            rw [eL2] at H7 k7
            rw [f8, idl_len] at k7
            refine zW_p 2 rfl ?_
            refine hW_getr (j := 0) H7 rfl hax.ssE rfl rfl rfl f4 (fun b8 hb8 => ?_)
            refine hW_size H7 rfl rfl rfl hb8 rfl rfl rfl (by omega) ?_
            rw [sE_ssE, if_pos ⟨rfl, rfl⟩, List.length_append, f8, idl_len]
            refine zW_p 2 rfl ?_
            rw [I_sub]
            have en : (((sn S 8 + [(sn S 8 : Int)].length : Nat) : Int) - 1) = (sn S 8 : Int) := by simp
            rw [en, ← hk]
            exact zW_reti rfl rfl rfl (Or.inr ⟨rfl, rfl, ghx, gext.trans (gext_w gext_rfl (fun _ => Nat.le_refl _)) x6 (fun c => sn_w_le (xs := [])), H7, ((k4.trans k6).trans k7).mono (by omega) (by omega)⟩)
        · rw [decide_eq_false c3]
          refine zW_p 1 rfl ?_
          exact zW_lx (bad3 (by rw [← hk, if_pos (fun q => c3 q.2.2)])) rfl ⟨rfl, rfl, rfl, rfl, rfl, rfl, trivial⟩
      · rw [decide_eq_false c2]
        refine zW_p 1 rfl ?_
        exact zW_lx (bad3 (by rw [← hk, if_pos (fun q => c2 q.2.1)])) rfl ⟨rfl, rfl, rfl, rfl, rfl, rfl, trivial⟩
    · rw [decide_eq_false c1]
      refine zW_p 1 rfl ?_
      exact zW_lx (bad3 (by rw [← hk, if_pos (fun q => c1 q.1)])) rfl ⟨rfl, rfl, rfl, rfl, rfl, rfl, trivial⟩
  · obtain ⟨σ1, q1, q2, q3⟩ := F_partX H hF ha hp h1
    rw [if_pos h1]
    exact wVT rfl rfl rfl rfl rfl rfl rfl (H.rc ha rfl rfl) q1 (by omega) rfl (Or.inl ⟨by decide, rfl, q2, q3⟩)
def mOrderCode (S : hS) (p q o d : Int) : Int := if ¬ (0 ≤ p ∧ p < sn S 13) then 1 else if ¬ ((1 ≤ q ∧ q ≤ 100) ∧ (0 ≤ o ∧ o ≤ 2) ∧ (0 ≤ d ∧ d ≤ 9999)) then 2 else if sn S 15 = 30 then 3 else 0
def mOrderS (S0 : hS) (p q o d : Int) : hS := ssE (kMOrder (snw (mt S0 0) 15 []) (sn S0 15) (sn S0 15) p q o d) 33 0 (sE S0 33 0 ++ [(sn S0 15 : Int)])
theorem M_order {p q o d : Int} (H : hRep g w0 σ gh S J) (hF : mFix S) (ha : hat gh S 11 0 a) (hp : rg p) (hq : rg q) (ho : rg o) (hd : rg d) :
    zM g 8 225 [.ref a, iv p, iv q, iv o, iv d] σ (fun r σ' => (mOrderCode S p q o d ≠ 0 ∧ r = .inl (some (iv 0)) ∧ hRep g w0 σ' gh (mt S (mOrderCode S p q o d)) J ∧ kc σ σ' 0 0) ∨ (mOrderCode S p q o d = 0 ∧ r = .inl (some (iv (sn S 15))) ∧ ∃ ghx, gext S gh ghx ∧ hRep g w0 σ' ghx (mOrderS S p q o d) J ∧ kc σ σ' 5 200)) := by
  have hfx := hF
  obtain ⟨f0, f1, f2, f3, f4, f5, f6, f7, f8, f9, fa, fb, fc, fd, fe⟩ := hF
  have key : ∀ (n : Int) (lv : zp_L), n = mOrderCode S p q o d → lvok [(0, .ref a), (1, iv p), (2, iv q), (3, iv o), (4, iv d)] lv → zW g 8 225 77 lv [iv n, .ref a] σ (fun r σ' => (mOrderCode S p q o d ≠ 0 ∧ r = .inl (some (iv 0)) ∧ hRep g w0 σ' gh (mt S (mOrderCode S p q o d)) J ∧ kc σ σ' 0 0) ∨ (mOrderCode S p q o d = 0 ∧ r = .inl (some (iv (sn S 15))) ∧ ∃ ghx, gext S gh ghx ∧ hRep g w0 σ' ghx (mOrderS S p q o d) J ∧ kc σ σ' 5 200)) := by
    intro n lv hn hlv
    refine zW_ly hlv rfl ?_
    rw [← hn]
    have hn3 : n = 0 ∨ n = 1 ∨ n = 2 ∨ n = 3 := by
      rw [hn]; unfold mOrderCode
      repeat' split
      all_goals simp
    obtain ⟨σ1, g1, g2, g3⟩ := M_fails (v := n) H ha (by rcases hn3 with h | h | h | h <;> rw [h] <;> exact ⟨by decide, by decide⟩)
    refine wV rfl rfl rfl rfl rfl rfl rfl (H.rc ha rfl rfl) g1 (by omega) ?_
    by_cases h0 : n = 0
    · subst h0
      have h30 : sn S 15 < 30 := by
        by_cases h : sn S 15 = 30
        · unfold mOrderCode at hn; rw [if_pos h] at hn
          repeat' split at hn
          all_goals omega
        · omega
      have H1 : hRep g w0 σ1 gh (mt S 0) J := g2
      refine zW_p 2 rfl ?_
      refine hW_getr (j := 0) H1 rfl ha rfl rfl rfl f4 (fun b3 hb3 => ?_)
      refine hW_new H1 rfl rfl rfl rfl rfl rfl (fun σ4 b4 H4 hb4 k4 => ?_)
      refine zW_p 2 rfl ?_
      have ha1 : hat gh (mt S 0) 11 0 a := ha
      refine hW_getr (j := 0) H4 rfl ha1.old rfl rfl rfl f4 (fun b5 hb5 => ?_)
      refine hW_size H4 rfl rfl rfl hb5 rfl rfl rfl (by omega) ?_
      have eL : sE (snw (mt S 0) 15 []) 33 0 = sE S 33 0 := rfl
      rw [eL, fa, idl_len]
      refine zW_p 4 rfl ?_
      obtain ⟨σ6, g6, ghx, x6, H6, k6⟩ := M_newOrder (p := (sn S 15 : Nat)) (q := p) (r := q) (t := o) (u := d) H4 hb4
      refine wI rfl rfl rfl rfl rfl rfl rfl rfl rfl g6 (by omega) ?_
      have le6 : ∀ c', sn (snw (mt S 0) 15 []) c' ≤ sn (kMOrder (snw (mt S 0) 15 []) (sn S 15) (sn S 15 : Nat) p q o d) c' := fun c' => by
        show _ ≤ sn (snw (snw (snw (snw (mt S 0) 15 []) 38 []) 39 []) 40 []) c'
        exact Nat.le_trans sn_w_le (Nat.le_trans sn_w_le sn_w_le)
      have hb4x := x6.hat le6 hb4
      have hb3x := x6.hat le6 hb3.old
      have hax := x6.hat le6 ha1.old
      have eL2 : sE (kMOrder (snw (mt S 0) 15 []) (sn S 15) (sn S 15 : Nat) p q o d) 33 0 = sE S 33 0 := rfl
      have H6' : hRep g w0 σ6 ghx (kMOrder (snw (mt S 0) 15 []) (sn S 15) (sn S 15 : Nat) p q o d) J := H6
      refine hW_add (x := (sn S 15 : Int)) H6' rfl rfl rfl hb3x rfl rfl rfl (elrepR hb4x) (alvR hb4x.1) (by rw [eL2, fa, idl_len]; omega) rfl (by omega) (fun σ7 H7 k7 => ?_)
      rw [eL2] at H7 k7
      rw [fa, idl_len] at k7
      refine zW_p 2 rfl ?_
      refine hW_getr (j := 0) H7 rfl hax.ssE rfl rfl rfl f4 (fun b8 hb8 => ?_)
      refine hW_size H7 rfl rfl rfl hb8 rfl rfl rfl (by omega) ?_
      rw [sE_ssE, if_pos ⟨rfl, rfl⟩, List.length_append, fa, idl_len]
      refine zW_p 2 rfl ?_
      rw [I_sub]
      have en : (((sn S 15 + [(sn S 15 : Int)].length : Nat) : Int) - 1) = (sn S 15 : Int) := by simp
      rw [en]
      have k8 := ((((kc.of g3).trans k4).trans k6).trans k7)
      have gx : gext S gh ghx := gext.trans (S := mt S 0) (gext_w gext_rfl (fun _ => Nat.le_refl _)) x6 (fun c => sn_w_le (xs := []))
      exact zW_reti rfl rfl rfl (Or.inr ⟨rfl, rfl, ghx, gx, H7, k8.mono (by omega) (by omega)⟩)
    · rw [decide_eq_true (by omega)]
      refine zW_p 2 rfl ?_
      exact zW_reti rfl rfl rfl (Or.inl ⟨h0, rfl, g2, kc.of g3⟩)
  have J1 : ∀ r : Bool, r = decide ((1 ≤ q ∧ q ≤ 100) ∧ (0 ≤ o ∧ o ≤ 2) ∧ (0 ≤ d ∧ d ≤ 9999)) → zW g 8 225 36 [(0, .ref a), (1, iv p), (2, iv q), (3, iv o), (4, iv d)] [iv (bi r)] σ (fun r σ' => (mOrderCode S p q o d ≠ 0 ∧ r = .inl (some (iv 0)) ∧ hRep g w0 σ' gh (mt S (mOrderCode S p q o d)) J ∧ kc σ σ' 0 0) ∨ (mOrderCode S p q o d = 0 ∧ r = .inl (some (iv (sn S 15))) ∧ ∃ ghx, gext S gh ghx ∧ hRep g w0 σ' ghx (mOrderS S p q o d) J ∧ kc σ σ' 5 200)) := by
    intro r hr
    refine zW_p 4 rfl ?_
    refine wV rfl rfl rfl rfl rfl rfl rfl (H.rc ha rfl rfl) (M_isPart H hfx ha hp) (by omega) ?_
    by_cases h1 : 0 ≤ p ∧ p < sn S 13
    · rw [decide_eq_true h1]
      cases r with
      | false =>
        have hn := of_decide_eq_false hr.symm
        refine zW_p 5 rfl ?_
        exact key 2 _ (by unfold mOrderCode; rw [if_neg (fun e => e h1), if_pos hn]) ⟨rfl, rfl, rfl, rfl, rfl, trivial⟩
      | true =>
        have hy := of_decide_eq_true hr.symm
        refine zW_p 4 rfl ?_
        refine hW_getr (j := 0) H rfl ha rfl rfl rfl f4 (fun b2 hb2 => ?_)
        refine hW_size H rfl rfl rfl hb2 rfl rfl rfl (by omega) ?_
        rw [fa, idl_len]
        refine zW_p 1 rfl ?_
        by_cases h6 : sn S 15 = 30
        · refine zW_f rfl rfl (fun e => e (by rw [h6]; rfl)) ?_
          refine zW_p 2 rfl ?_
          exact key 3 _ (by unfold mOrderCode; rw [if_neg (fun e => e h1), if_neg (fun e => e hy), if_pos h6]) ⟨rfl, rfl, rfl, rfl, rfl, trivial⟩
        · refine zW_t rfl rfl (fun e => h6 (by have := (I_eq (b := 30) ⟨by omega, by omega⟩ ⟨by decide, by decide⟩).mp e; omega)) ?_
          refine zW_p 1 rfl ?_
          exact key 0 _ (by unfold mOrderCode; rw [if_neg (fun e => e h1), if_neg (fun e => e hy), if_neg h6]) ⟨rfl, rfl, rfl, rfl, rfl, trivial⟩
    · rw [decide_eq_false h1]
      refine zW_p 3 rfl ?_
      exact key 1 _ (by unfold mOrderCode; rw [if_pos h1]) ⟨rfl, rfl, rfl, rfl, rfl, trivial⟩
  refine zW_p 3 rfl ?_
  refine wS rfl rfl rfl rfl rfl rfl rfl rfl rfl (M_in (lo := 1) (hi := 100) hq ⟨by decide, by decide⟩ ⟨by decide, by decide⟩) (by omega) ?_
  by_cases c1 : 1 ≤ q ∧ q ≤ 100
  · rw [decide_eq_true c1]
    refine zW_p 4 rfl ?_
    refine wS rfl rfl rfl rfl rfl rfl rfl rfl rfl (M_in (lo := 0) (hi := 2) ho ⟨by decide, by decide⟩ ⟨by decide, by decide⟩) (by omega) ?_
    by_cases c2 : 0 ≤ o ∧ o ≤ 2
    · rw [decide_eq_true c2]
      refine zW_p 4 rfl ?_
      refine wS rfl rfl rfl rfl rfl rfl rfl rfl rfl (M_in (lo := 0) (hi := 9999) hd ⟨by decide, by decide⟩ ⟨by decide, by decide⟩) (by omega) ?_
      by_cases c3 : 0 ≤ d ∧ d ≤ 9999
      · rw [decide_eq_true c3]
        refine zW_p 3 rfl ?_
        exact J1 true (by rw [decide_eq_true ⟨c1, c2, c3⟩])
      · rw [decide_eq_false c3]
        refine zW_p 2 rfl ?_
        exact J1 false (by rw [decide_eq_false (fun q => c3 q.2.2)])
    · rw [decide_eq_false c2]
      refine zW_p 2 rfl ?_
      exact J1 false (by rw [decide_eq_false (fun q => c2 q.2.1)])
  · rw [decide_eq_false c1]
    refine zW_p 2 rfl ?_
    exact J1 false (by rw [decide_eq_false (fun q => c1 q.1)])
def fFor (S : hS) (k : Nat) (w : Int) : Bool := decide (sT S 4 2 k = -1) || decide (sT S 4 2 k = w)
theorem F_isFor {k b : Nat} {w : Int} (H : hRep g w0 σ gh S J) (hb : hat gh S 4 k b) (h2 : rg (sT S 4 2 k)) (hw : rg w) : zEnd g 0 113 [.ref b, iv w] σ (.inl (some (iv (bi (fFor S k w))))) σ := by
  refine zEnd_of ?_
  unfold fFor
  refine zW_p 1 rfl ?_
  refine hW_get H rfl hb rfl rfl rfl ?_
  refine zW_p 1 rfl ?_
  by_cases c1 : sT S 4 2 k = -1
  · rw [decide_eq_true c1, Bool.true_or]
    refine zW_t rfl rfl (by rw [c1]) ?_
    refine zW_p 2 rfl ?_
    exact zW_reti rfl rfl rfl ⟨rfl, rfl⟩
  · rw [decide_eq_false c1, Bool.false_or]
    refine zW_f rfl rfl (fun e => c1 ((I_eq (b := -1) h2 ⟨by decide, by decide⟩).mp e)) ?_
    refine zW_p 1 rfl ?_
    refine hW_get H rfl hb rfl rfl rfl ?_
    refine zW_p 1 rfl ?_
    by_cases c2 : sT S 4 2 k = w
    · rw [decide_eq_true c2]
      refine zW_f rfl rfl (fun e => e (by rw [c2])) ?_
      refine zW_p 2 rfl ?_
      exact zW_reti rfl rfl rfl ⟨rfl, rfl⟩
    · rw [decide_eq_false c2]
      refine zW_t rfl rfl (fun e => c2 ((I_eq h2 hw).mp e)) ?_
      refine zW_p 1 rfl ?_
      exact zW_reti rfl rfl rfl ⟨rfl, rfl⟩
end ZOR
