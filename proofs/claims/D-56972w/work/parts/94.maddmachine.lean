/-! The model's addMachine -/
set_option maxRecDepth 100000
theorem M_addMachine_chk {g : zG} {σ : zS} {a : Nat} {p q r t : Int} {d : Nat} {Q : Option Value ⊕ String → zS → Prop} (hd : 1 ≤ d) (hp : rg p) (hq : rg q) (hr : rg r) (ht : rg t) (h : zW g d 196 47 [(0, .ref a), (1, iv p), (2, iv q), (3, iv r), (4, iv t)] [iv (bi (okMachine p q r t))] σ Q) : zW g d 196 0 (lv_args 0 [.ref a, iv p, iv q, iv r, iv t]) [] σ Q := by
  have no : okMachine p q r t = false → zW g d 196 46 [(0, .ref a), (1, iv p), (2, iv q), (3, iv r), (4, iv t)] [] σ Q := by
    intro e
    rw [e] at h
    exact zW_p 1 rfl h
  unfold okMachine at h no
  refine zW_p 3 rfl ?_
  refine wS rfl rfl rfl rfl rfl rfl rfl rfl rfl (M_in (lo := 0) (hi := 20) hp ⟨by decide, by decide⟩ ⟨by decide, by decide⟩) (by omega) ?_
  cases e1 : decide (0 ≤ p ∧ p ≤ 20) with
  | false =>
    refine zW_p 1 rfl ?_
    exact zW_lv [(0, .ref a), (1, iv p), (2, iv q), (3, iv r), (4, iv t)] rfl ⟨rfl, rfl, rfl, rfl, rfl, trivial⟩ (no (by rw [e1]; rfl))
  | true =>
    refine zW_p 4 rfl ?_
    refine wS rfl rfl rfl rfl rfl rfl rfl rfl rfl (M_in (lo := 0) (hi := 50) hq ⟨by decide, by decide⟩ ⟨by decide, by decide⟩) (by omega) ?_
    cases e2 : decide (0 ≤ q ∧ q ≤ 50) with
    | false =>
      refine zW_p 1 rfl ?_
      exact zW_lv [(0, .ref a), (1, iv p), (2, iv q), (3, iv r), (4, iv t)] rfl ⟨rfl, rfl, rfl, rfl, rfl, trivial⟩ (no (by rw [e1, e2]; rfl))
    | true =>
      refine zW_p 4 rfl ?_
      refine wS rfl rfl rfl rfl rfl rfl rfl rfl rfl (M_in (lo := 5) (hi := 500) hr ⟨by decide, by decide⟩ ⟨by decide, by decide⟩) (by omega) ?_
      cases e3 : decide (5 ≤ r ∧ r ≤ 500) with
      | false =>
        refine zW_p 1 rfl ?_
        exact zW_lv [(0, .ref a), (1, iv p), (2, iv q), (3, iv r), (4, iv t)] rfl ⟨rfl, rfl, rfl, rfl, rfl, trivial⟩ (no (by rw [e1, e2, e3]; rfl))
      | true =>
        refine zW_p 4 rfl ?_
        refine wS rfl rfl rfl rfl rfl rfl rfl rfl rfl (M_in (lo := 1) (hi := 99) ht ⟨by decide, by decide⟩ ⟨by decide, by decide⟩) (by omega) ?_
        cases e4 : decide (1 ≤ t ∧ t ≤ 99) with
        | false =>
          refine zW_p 1 rfl ?_
          exact zW_lv [(0, .ref a), (1, iv p), (2, iv q), (3, iv r), (4, iv t)] rfl ⟨rfl, rfl, rfl, rfl, rfl, trivial⟩ (no (by rw [e1, e2, e3, e4]; rfl))
        | true =>
          rw [e1, e2, e3, e4] at h
          refine zW_p 3 rfl ?_
          exact zW_lv [(0, .ref a), (1, iv p), (2, iv q), (3, iv r), (4, iv t)] rfl ⟨rfl, rfl, rfl, rfl, rfl, trivial⟩ h
/-- what addMachine throws -/
def mAddMachineT (S : hS) (p q r t : Int) : Int := if okMachine p q r t = false then 1 else if sn S 12 = 5 then 2 else 0
def mAddMachine (S : hS) (p q r t : Int) : hS := if mAddMachineT S p q r t = 0 then ssE (kMMachine (snw (mt S 0) 12 []) (sn S 12) p q r t) 30 0 (sE S 30 0 ++ [(sn S 12 : Int)]) else mt S (mAddMachineT S p q r t)
section ZAN
variable {g : zG} {w0 : hG} {σ : zS} {gh : Nat → Nat → Nat} {S : hS} {J : zw_W} {a : Nat} {p q r t : Int}
theorem M_addMachine (H : hRep g w0 σ gh S J) (hF : mFix S) (ha : hat gh S 11 0 a) (hp : rg p) (hq : rg q) (hr : rg r) (ht : rg t) :
    ∃ σ' : zS, zEnd g 8 196 [.ref a, iv p, iv q, iv r, iv t] σ (.inl (some (iv (if mAddMachineT S p q r t = 0 then sn S 12 else 0)))) σ' ∧ ∃ ghx, gext S gh ghx ∧ hRep g w0 σ' ghx (mAddMachine S p q r t) J ∧ kc σ σ' 4 60 := by
  obtain ⟨f0, f1, f2, f3, f4, f5, f6, f7, f8, f9, fa, fb, fc, fd, fe⟩ := hF
  have main : zW g 8 196 0 (lv_args 0 [.ref a, iv p, iv q, iv r, iv t]) [] σ (fun o σ' => o = .inl (some (iv (if mAddMachineT S p q r t = 0 then sn S 12 else 0))) ∧ ∃ ghx, gext S gh ghx ∧ hRep g w0 σ' ghx (mAddMachine S p q r t) J ∧ kc σ σ' 4 60) := by
    refine M_addMachine_chk (by omega) hp hq hr ht ?_
    unfold mAddMachine
    cases hok : okMachine p q r t with
    | false =>
      have hT : mAddMachineT S p q r t = 1 := by unfold mAddMachineT; rw [hok]; rfl
      rw [hT, if_neg (by decide), if_neg (by decide)]
      obtain ⟨σ1, g1, g2, g3⟩ := M_fails (v := 1) H ha ⟨by decide, by decide⟩
      refine zW_p 6 rfl ?_
      refine wV rfl rfl rfl rfl rfl rfl rfl (H.rc ha rfl rfl) g1 (by omega) ?_
      refine zW_p 2 rfl ?_
      exact zW_reti rfl rfl rfl ⟨rfl, gh, gext_rfl, g2, (kc.of g3).mono (by omega) (by omega)⟩
    | true =>
      refine zW_p 5 rfl ?_
      refine hW_getr H rfl ha rfl rfl rfl f1 (fun b1 hb1 => ?_)
      refine hW_size H rfl rfl rfl hb1 rfl rfl rfl (by omega) ?_
      have e7 : (sE S 30 0).length = sn S 12 := by rw [f7, idl_len]
      rw [e7]
      refine zW_p 1 rfl ?_
      refine zW_br rfl rfl (fun hP => ?_) (fun hP => ?_)
      · have hn : ¬ sn S 12 = 5 := fun e => hP (by rw [e]; rfl)
        have hT : mAddMachineT S p q r t = 0 := by unfold mAddMachineT; rw [hok, if_neg (by decide), if_neg hn]
        rw [hT, if_pos rfl, if_pos rfl]
        obtain ⟨σ1, g1, H1, g3⟩ := M_fails (v := 0) H ha ⟨by decide, by decide⟩
        refine zW_p 1 rfl ?_
        refine wV rfl rfl rfl rfl rfl rfl rfl (H.rc ha rfl rfl) g1 (by omega) ?_
        refine zW_p 2 rfl ?_
        refine hW_getr H1 rfl ha.set rfl rfl rfl f1 (fun b6 hb6 => ?_)
        refine hW_new H1 rfl rfl rfl rfl rfl rfl (fun σ7 b7 H7 hb7 k7 => ?_)
        refine zW_p 5 rfl ?_
        obtain ⟨σ8, g8, ghx, x8, H8, k8⟩ := M_newMachine (p := p) (q := q) (r := r) (t := t) H7 hb7
        have H8' : hRep g w0 σ8 ghx (kMMachine (snw (mt S 0) 12 []) (sn S 12) p q r t) J := H8
        refine wI rfl rfl rfl rfl rfl rfl rfl rfl rfl g8 (by omega) ?_
        have le1 : ∀ c, sn S c ≤ sn (snw (mt S 0) 12 []) c := fun c => sn_w_le (S := mt S 0)
        have le2 : ∀ c, sn (snw (mt S 0) 12 []) c ≤ sn (kMMachine (snw (mt S 0) 12 []) (sn S 12) p q r t) c := fun c => by
          unfold kMMachine
          simp only [sn_set]
          exact Nat.le_refl _
        have hbx : hat ghx (kMMachine (snw (mt S 0) 12 []) (sn S 12) p q r t) 12 (sn S 12) b7 := x8.hat le2 hb7
        have hb6x : hat ghx (kMMachine (snw (mt S 0) 12 []) (sn S 12) p q r t) 30 0 b6 := x8.hat le2 hb6.old
        have hax : hat ghx (kMMachine (snw (mt S 0) 12 []) (sn S 12) p q r t) 11 0 a := x8.hat le2 (hat.old (S := mt S 0) ha)
        have eL : sE (kMMachine (snw (mt S 0) 12 []) (sn S 12) p q r t) 30 0 = sE S 30 0 := rfl
        refine hW_add (x := (sn S 12 : Int)) H8' rfl rfl rfl hb6x rfl rfl rfl (elrepR hbx) (alvR hbx.1) (by rw [eL, f7, idl_len]; omega) rfl (by omega) (fun σ9 H9 k9 => ?_)
        refine zW_p 2 rfl ?_
        refine hW_getr (j := 0) H9 rfl hax.ssE rfl rfl rfl f1 (fun b10 hb10 => ?_)
        refine hW_size H9 rfl rfl rfl hb10 rfl rfl rfl (by omega) ?_
        have eN : (sE (ssE (kMMachine (snw (mt S 0) 12 []) (sn S 12) p q r t) 30 0 (sE (kMMachine (snw (mt S 0) 12 []) (sn S 12) p q r t) 30 0 ++ [(sn S 12 : Int)])) 30 0).length = sn S 12 + 1 := by
          rw [sE_ssE, if_pos ⟨rfl, rfl⟩, eL, f7, List.length_append, idl_len]
          rfl
        rw [eN]
        refine zW_p 2 rfl ?_
        rw [I_sub, show ((sn S 12 + 1 : Nat) : Int) - 1 = (sn S 12 : Int) from by omega]
        refine zW_reti rfl rfl rfl ⟨rfl, ghx, gext.trans (gext_w (S1 := mt S 0) gext_rfl (fun _ => Nat.le_refl _)) x8 le1, H9, ?_⟩
        rw [eL, f7, idl_len] at k9
        exact ((((kc.of g3).trans k7).trans k8).trans k9).mono (by omega) (by omega)
      · have hn : sn S 12 = 5 := by
          by_cases e : sn S 12 = 5
          · exact e
          · exact absurd (fun q => e (by have := (I_eq ⟨by omega, by omega⟩ ⟨by decide, by decide⟩).mp q; omega)) hP
        have hT : mAddMachineT S p q r t = 2 := by unfold mAddMachineT; rw [hok, if_neg (by decide), if_pos hn]
        rw [hT, if_neg (by decide), if_neg (by decide)]
        obtain ⟨σ1, g1, g2, g3⟩ := M_fails (v := 2) H ha ⟨by decide, by decide⟩
        refine zW_p 2 rfl ?_
        refine wV rfl rfl rfl rfl rfl rfl rfl (H.rc ha rfl rfl) g1 (by omega) ?_
        refine zW_p 2 rfl ?_
        exact zW_reti rfl rfl rfl ⟨rfl, gh, gext_rfl, g2, (kc.of g3).mono (by omega) (by omega)⟩
  obtain ⟨o, σ', h1, rfl, h2⟩ := main
  exact ⟨σ', h1, h2⟩
end ZAN
