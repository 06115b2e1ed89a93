/-! Foundrymark.addMachine -/
set_option maxRecDepth 100000
theorem elrepR {g : zG} {w0 : hG} {gh : Nat → Nat → Nat} {S : hS} {n j b : Nat} (h : hat gh S n j b) : elrep g w0 gh (n + 40) (j : Int) (some b) := by
  refine ⟨by omega, ?_⟩
  show some b = some (gh n (j : Int).toNat)
  rw [Int.toNat_natCast, h.2]
theorem elrepP {g : zG} {w0 : hG} {gh : Nat → Nat → Nat} {S : hS} {y b : Nat} (h : hat gh S (2 + y % 2) (y / 2) b) : elrep g w0 gh 3 (y : Int) (some b) := by
  refine ⟨by omega, ?_⟩
  show some b = some (gh (2 + (y : Int).toNat % 2) ((y : Int).toNat / 2))
  rw [Int.toNat_natCast, h.2]
def okMachine (p q r t : Int) : Bool := decide (0 ≤ p ∧ p ≤ 20) && (decide (0 ≤ q ∧ q ≤ 50) && (decide (5 ≤ r ∧ r ≤ 500) && decide (1 ≤ t ∧ t ≤ 99)))
def fAddMachine (S : hS) (p q r t : Int) : hS := ssE (kFMachine (snw S 1 []) (sn S 1) p q r t) 20 0 (sE S 20 0 ++ [(sn S 1 : Int)])
section ZAM
variable {g : zG} {w0 : hG} {σ : zS} {gh : Nat → Nat → Nat} {S : hS} {J : zw_W} {a : Nat} {p q r t : Int}
theorem F_addMachine_chk {d : Nat} {Q : Option Value ⊕ String → zS → Prop} (hd : 1 ≤ d) (hp : rg p) (hq : rg q) (hr : rg r) (ht : rg t) (h : zW g d 36 47 [(0, .ref a), (1, iv p), (2, iv q), (3, iv r), (4, iv t)] [iv (bi (okMachine p q r t))] σ Q) : zW g d 36 0 (lv_args 0 [.ref a, iv p, iv q, iv r, iv t]) [] σ Q := by
  have no : okMachine p q r t = false → zW g d 36 46 [(0, .ref a), (1, iv p), (2, iv q), (3, iv r), (4, iv t)] [] σ Q := by
    intro e
    rw [e] at h
    exact zW_p 1 rfl h
  unfold okMachine at h no
  refine zW_p 3 rfl ?_
  refine wS rfl rfl rfl rfl rfl rfl rfl rfl rfl (F_between (lo := 0) (hi := 20) hp ⟨by decide, by decide⟩ ⟨by decide, by decide⟩) (by omega) ?_
  cases e1 : decide (0 ≤ p ∧ p ≤ 20) with
  | false =>
    refine zW_p 1 rfl ?_
    exact zW_lv [(0, .ref a), (1, iv p), (2, iv q), (3, iv r), (4, iv t)] rfl ⟨rfl, rfl, rfl, rfl, rfl, trivial⟩ (no (by rw [e1]; rfl))
  | true =>
    refine zW_p 4 rfl ?_
    refine wS rfl rfl rfl rfl rfl rfl rfl rfl rfl (F_between (lo := 0) (hi := 50) hq ⟨by decide, by decide⟩ ⟨by decide, by decide⟩) (by omega) ?_
    cases e2 : decide (0 ≤ q ∧ q ≤ 50) with
    | false =>
      refine zW_p 1 rfl ?_
      exact zW_lv [(0, .ref a), (1, iv p), (2, iv q), (3, iv r), (4, iv t)] rfl ⟨rfl, rfl, rfl, rfl, rfl, trivial⟩ (no (by rw [e1, e2]; rfl))
    | true =>
      refine zW_p 4 rfl ?_
      refine wS rfl rfl rfl rfl rfl rfl rfl rfl rfl (F_between (lo := 5) (hi := 500) hr ⟨by decide, by decide⟩ ⟨by decide, by decide⟩) (by omega) ?_
      cases e3 : decide (5 ≤ r ∧ r ≤ 500) with
      | false =>
        refine zW_p 1 rfl ?_
        exact zW_lv [(0, .ref a), (1, iv p), (2, iv q), (3, iv r), (4, iv t)] rfl ⟨rfl, rfl, rfl, rfl, rfl, trivial⟩ (no (by rw [e1, e2, e3]; rfl))
      | true =>
        refine zW_p 4 rfl ?_
        refine wS rfl rfl rfl rfl rfl rfl rfl rfl rfl (F_between (lo := 1) (hi := 99) ht ⟨by decide, by decide⟩ ⟨by decide, by decide⟩) (by omega) ?_
        cases e4 : decide (1 ≤ t ∧ t ≤ 99) with
        | false =>
          refine zW_p 1 rfl ?_
          exact zW_lv [(0, .ref a), (1, iv p), (2, iv q), (3, iv r), (4, iv t)] rfl ⟨rfl, rfl, rfl, rfl, rfl, trivial⟩ (no (by rw [e1, e2, e3, e4]; rfl))
        | true =>
          rw [e1, e2, e3, e4] at h
          refine zW_p 3 rfl ?_
          exact zW_lv [(0, .ref a), (1, iv p), (2, iv q), (3, iv r), (4, iv t)] rfl ⟨rfl, rfl, rfl, rfl, rfl, trivial⟩ h
theorem F_addMachineA (H : hRep g w0 σ gh S J) (hp : rg p) (hq : rg q) (hr : rg r) (ht : rg t) (hok : okMachine p q r t = false) : ∃ σ' : zS, zEnd g 8 36 [.ref a, iv p, iv q, iv r, iv t] σ (.inr "java/lang/IllegalArgumentException") σ' ∧ hRep g w0 σ' gh S J ∧ kc σ σ' 1 6 := by
  have main : zW g 8 36 0 (lv_args 0 [.ref a, iv p, iv q, iv r, iv t]) [] σ (fun o σ' => o = .inr "java/lang/IllegalArgumentException" ∧ hRep g w0 σ' gh S J ∧ kc σ σ' 1 6) := by
    refine F_addMachine_chk (by omega) hp hq hr ht ?_
    rw [hok]
    obtain ⟨σ1, g1, g2, g3⟩ := F_reqF37 H
    exact wST rfl rfl rfl rfl rfl rfl rfl rfl rfl g1 (by omega) rfl ⟨rfl, g2, g3⟩
  obtain ⟨o, σ', h1, rfl, h2, h3⟩ := main
  exact ⟨σ', h1, h2, h3⟩
theorem F_addMachineB (H : hRep g w0 σ gh S J) (hF : fFix S) (ha : hat gh S 0 0 a) (hp : rg p) (hq : rg q) (hr : rg r) (ht : rg t) (hok : okMachine p q r t = true) (hn : sn S 1 = 5) : ∃ σ' : zS, zEnd g 8 36 [.ref a, iv p, iv q, iv r, iv t] σ (.inr "java/lang/IllegalStateException") σ' ∧ hRep g w0 σ' gh S J ∧ kc σ σ' 1 6 := by
  obtain ⟨f0, f1, f2, f3, f4, f5, f6, f7, f8, f9, fa, fb, fc, fd⟩ := hF
  have main : zW g 8 36 0 (lv_args 0 [.ref a, iv p, iv q, iv r, iv t]) [] σ (fun o σ' => o = .inr "java/lang/IllegalStateException" ∧ hRep g w0 σ' gh S J ∧ kc σ σ' 1 6) := by
    refine F_addMachine_chk (by omega) hp hq hr ht ?_
    rw [hok]
    refine wS rfl rfl rfl rfl rfl rfl rfl rfl rfl F_reqT37 (by omega) ?_
    refine zW_p 1 rfl ?_
    refine hW_getr H rfl ha rfl rfl rfl f1 (fun b3 hb3 => ?_)
    refine hW_size H rfl rfl rfl hb3 rfl rfl rfl (by omega) ?_
    rw [f6, idl_len, hn]
    refine zW_p 3 rfl ?_
    obtain ⟨σ1, g1, g2, g3⟩ := F_reqF39 H
    exact wST rfl rfl rfl rfl rfl rfl rfl rfl rfl g1 (by omega) rfl ⟨rfl, g2, g3⟩
  obtain ⟨o, σ', h1, rfl, h2, h3⟩ := main
  exact ⟨σ', h1, h2, h3⟩
theorem F_addMachine (H : hRep g w0 σ gh S J) (hF : fFix S) (ha : hat gh S 0 0 a) (hp : rg p) (hq : rg q) (hr : rg r) (ht : rg t) (hok : okMachine p q r t = true) (hn : sn S 1 < 5) :
    ∃ σ' : zS, zEnd g 8 36 [.ref a, iv p, iv q, iv r, iv t] σ (.inl (some (iv (sn S 1)))) σ' ∧ ∃ ghx, gext S gh ghx ∧ hRep g w0 σ' ghx (fAddMachine S p q r t) J ∧ kc σ σ' 4 60 := by
  obtain ⟨f0, f1, f2, f3, f4, f5, f6, f7, f8, f9, fa, fb, fc, fd⟩ := hF
  have main : zW g 8 36 0 (lv_args 0 [.ref a, iv p, iv q, iv r, iv t]) [] σ (fun o σ' => o = .inl (some (iv (sn S 1))) ∧ ∃ ghx, gext S gh ghx ∧ hRep g w0 σ' ghx (fAddMachine S p q r t) J ∧ kc σ σ' 4 60) := by
    refine F_addMachine_chk (by omega) hp hq hr ht ?_
    rw [hok]
    refine wS rfl rfl rfl rfl rfl rfl rfl rfl rfl F_reqT37 (by omega) ?_
    refine zW_p 1 rfl ?_
    refine hW_getr H rfl ha rfl rfl rfl f1 (fun b3 hb3 => ?_)
    refine hW_size H rfl rfl rfl hb3 rfl rfl rfl (by omega) ?_
    rw [f6, idl_len]
    refine zW_p 1 rfl ?_
    refine zW_br rfl rfl (fun hP => ?_) (fun hP => ?_)
    · rw [I_le ⟨by decide, by decide⟩ ⟨by omega, by omega⟩] at hP
      omega
    · refine zW_p 2 rfl ?_
      refine wS rfl rfl rfl rfl rfl rfl rfl rfl rfl F_reqT39 (by omega) ?_
      refine zW_p 1 rfl ?_
      refine hW_getr H rfl ha rfl rfl rfl f1 (fun b6 hb6 => ?_)
      refine hW_new H rfl rfl rfl rfl rfl rfl (fun σ7 b7 H7 hb7 k7 => ?_)
      refine zW_p 5 rfl ?_
      obtain ⟨σ8, g8, ghx, x8, H8, k8⟩ := F_newMachine (p := p) (q := q) (r := r) (t := t) H7 hb7
      refine wI rfl rfl rfl rfl rfl rfl rfl rfl rfl g8 (by omega) ?_
      have le1 : ∀ c, sn S c ≤ sn (snw S 1 []) c := fun c => sn_w_le
      have le2 : ∀ c, sn (snw S 1 []) c ≤ sn (kFMachine (snw S 1 []) (sn S 1) p q r t) c := fun c => by
        unfold kFMachine
        simp only [sn_set]
        exact sn_w_le
      have hbx : hat ghx (kFMachine (snw S 1 []) (sn S 1) p q r t) 1 (sn S 1) b7 := x8.hat le2 hb7
      have hb6x : hat ghx (kFMachine (snw S 1 []) (sn S 1) p q r t) 20 0 b6 := x8.hat le2 hb6.old
      have hax : hat ghx (kFMachine (snw S 1 []) (sn S 1) p q r t) 0 0 a := x8.hat le2 ha.old
      have eL : sE (kFMachine (snw S 1 []) (sn S 1) p q r t) 20 0 = sE S 20 0 := rfl
      refine hW_add (x := (sn S 1 : Int)) H8 rfl rfl rfl hb6x rfl rfl rfl (elrepR hbx) (alvR hbx.1) (by rw [eL, f6, idl_len]; omega) rfl (by omega) (fun σ9 H9 k9 => ?_)
      refine zW_p 2 rfl ?_
      refine hW_getr (j := 0) H9 rfl hax.ssE rfl rfl rfl f1 (fun b10 hb10 => ?_)
      refine hW_size H9 rfl rfl rfl hb10 rfl rfl rfl (by omega) ?_
      have eN : (sE (ssE (kFMachine (snw S 1 []) (sn S 1) p q r t) 20 0 (sE (kFMachine (snw S 1 []) (sn S 1) p q r t) 20 0 ++ [(sn S 1 : Int)])) 20 0).length = sn S 1 + 1 := by
        rw [sE_ssE, if_pos ⟨rfl, rfl⟩, eL, f6, List.length_append, idl_len]
        rfl
      rw [eN]
      refine zW_p 2 rfl ?_
      rw [I_sub, show ((sn S 1 + 1 : Nat) : Int) - 1 = (sn S 1 : Int) from by omega]
      refine zW_reti rfl rfl rfl ⟨rfl, ghx, gext.trans (gext_w gext_rfl (fun _ => Nat.le_refl _)) x8 le1, H9, ?_⟩
      rw [eL, f6, idl_len] at k9
      exact ((k7.trans k8).trans k9).mono (by omega) (by omega)
  obtain ⟨o, σ', h1, rfl, h2⟩ := main
  exact ⟨σ', h1, h2⟩
end ZAM
