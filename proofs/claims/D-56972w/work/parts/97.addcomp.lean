/-! Foundrymark.addComponent -/
set_option maxRecDepth 100000
def fPart (S : hS) : Prop := ∀ i : Nat, i < sn S 2 → 0 ≤ sT S 2 7 i ∧ 0 ≤ sT S 2 8 i ∧ (sE S 24 (sT S 2 7 i).toNat).length ≤ 4 ∧ (sE S 25 (sT S 2 8 i).toNat).length ≤ 3
/-- part number p: its code; its lists -/
def fPc (S : hS) (p : Int) : Nat := ((sE S 21 0).getD p.toNat 0).toNat
def fCl (S : hS) (p : Int) : Nat := (sT S 2 7 (fPc S p / 2)).toNat
def fOl (S : hS) (p : Int) : Nat := (sT S 2 8 (fPc S p / 2)).toNat
abbrev fIsP (S : hS) (p : Int) : Prop := 0 ≤ p ∧ p < (sE S 21 0).length
def fEx4 : Nat → String
  | 1 => "java/lang/IndexOutOfBoundsException"
  | 2 => "java/lang/UnsupportedOperationException"
  | 3 => "java/lang/IllegalArgumentException"
  | _ => "java/lang/IllegalStateException"
theorem fPc_at {S : hS} (hF : fFix S) {p : Nat} (hp : p < (sE S 21 0).length) : (sE S 21 0)[p]? = some ((fPc S p : Nat) : Int) := by
  have h0 := hF.2.2.2.2.2.2.2.2.2.2.2.2.2
  unfold fPc
  rw [Int.toNat_natCast, List.getD_eq_getElem?_getD, List.getElem?_eq_getElem hp]
  have := h0 _ (List.getElem_mem hp)
  simp only [Option.getD_some]
  rw [Int.toNat_of_nonneg this]

def fCompCode (S : hS) (p c n o : Int) : Nat := if ¬ (fIsP S p ∧ fIsP S c) then 1 else if ¬ (fPc S p % 2 = 0 ∧ c < p) then 2 else if ¬ ((1 ≤ n ∧ n ≤ 9) ∧ (-1 ≤ o ∧ o ≤ 2)) then 3 else if 4 ≤ (sE S 24 (fCl S p)).length then 4 else 0
def fAddComponent (S : hS) (p c n o : Int) : hS := ssE (kFComponent (snw S 4 []) (sn S 4) c n o) 24 (fCl S p) (sE S 24 (fCl S p) ++ [(sn S 4 : Int)])
section ZFC
variable {g : zG} {w0 : hG} {σ : zS} {gh : Nat → Nat → Nat} {S : hS} {J : zw_W} {a : Nat} {p c n o : Int}
theorem F_addComponent (H : hRep g w0 σ gh S J) (hF : fFix S) (hP : fPart S) (ha : hat gh S 0 0 a) (hp : rg p) (hc : rg c) (hn : rg n) (ho : rg o) :
    zM g 8 64 [.ref a, iv p, iv c, iv n, iv o] σ (fun r σ' => (fCompCode S p c n o ≠ 0 ∧ r = .inr (fEx4 (fCompCode S p c n o)) ∧ hRep g w0 σ' gh S J ∧ kc σ σ' 1 6) ∨ (fCompCode S p c n o = 0 ∧ r = .inl (some (iv ((sE S 24 (fCl S p)).length + 1 : Nat))) ∧ ∃ ghx, gext S gh ghx ∧ hRep g w0 σ' ghx (fAddComponent S p c n o) J ∧ kc σ σ' 2 40)) := by
  unfold fCompCode
  refine zW_p 2 rfl ?_
  by_cases h1 : fIsP S p
  · obtain ⟨i, rfl⟩ : ∃ i : Nat, p = i := ⟨p.toNat, (Int.toNat_of_nonneg h1.1).symm⟩
    have hi : i < (sE S 21 0).length := by have := h1.2; omega
    obtain ⟨b1, hb1, g1⟩ := F_part H hF ha (fPc_at hF hi)
    refine wV rfl rfl rfl rfl rfl rfl rfl (H.rc ha rfl rfl) g1 (by omega) ?_
    refine zW_p 3 rfl ?_
    by_cases h2 : fIsP S c
    · obtain ⟨j, rfl⟩ : ∃ j : Nat, c = j := ⟨c.toNat, (Int.toNat_of_nonneg h2.1).symm⟩
      have hj : j < (sE S 21 0).length := by have := h2.2; omega
      obtain ⟨b2, hb2, g2⟩ := F_part H hF ha (fPc_at hF hj)
      refine wV rfl rfl rfl rfl rfl rfl rfl (H.rc ha rfl rfl) g2 (by omega) ?_
      refine zW_p 2 rfl ?_
      rw [if_neg (fun q => q ⟨h1, h2⟩)]
      have hfc := hF.2.2.2.2.2.2.2.2.2.2.2.2.1
      generalize hk : (if ¬ (fPc S i % 2 = 0 ∧ (j : Int) < (i : Int)) then 2 else if ¬ ((1 ≤ n ∧ n ≤ 9) ∧ (-1 ≤ o ∧ o ≤ 2)) then 3 else if 4 ≤ (sE S 24 (fCl S i)).length then 4 else 0) = k
      have bad2 : ∀ lv : zp_L, k = 2 → zW g 8 64 31 lv [iv 0] σ (fun r σ' => (k ≠ 0 ∧ r = .inr (fEx4 k) ∧ hRep g w0 σ' gh S J ∧ kc σ σ' 1 6) ∨ (k = 0 ∧ r = .inl (some (iv ((sE S 24 (fCl S i)).length + 1 : Nat))) ∧ ∃ ghx, gext S gh ghx ∧ hRep g w0 σ' ghx (fAddComponent S i j n o) J ∧ kc σ σ' 2 40)) := by
        intro lv hk2
        rw [hk2]
        obtain ⟨σ1, q1, q2, q3⟩ := F_reqF66 H
        exact wST rfl rfl rfl rfl rfl rfl rfl rfl rfl q1 (by omega) rfl (Or.inl ⟨by decide, rfl, q2, q3⟩)
      have bad3 : ∀ lv : zp_L, k = 3 → zW g 8 64 58 lv [] σ (fun r σ' => (k ≠ 0 ∧ r = .inr (fEx4 k) ∧ hRep g w0 σ' gh S J ∧ kc σ σ' 1 6) ∨ (k = 0 ∧ r = .inl (some (iv ((sE S 24 (fCl S i)).length + 1 : Nat))) ∧ ∃ ghx, gext S gh ghx ∧ hRep g w0 σ' ghx (fAddComponent S i j n o) J ∧ kc σ σ' 2 40)) := by
        intro lv hk2
        rw [hk2]
        obtain ⟨σ1, q1, q2, q3⟩ := F_reqF37 H
        refine zW_p 1 rfl ?_
        exact wST rfl rfl rfl rfl rfl rfl rfl rfl rfl q1 (by omega) rfl (Or.inl ⟨by decide, rfl, q2, q3⟩)
      rcases (show fPc S i % 2 = 0 ∨ fPc S i % 2 = 1 by omega) with e | e
      · rw [e] at hb1
        obtain ⟨w1, w2, w3, w4⟩ := hP _ hb1.1
        refine hW_inst H rfl hb1 rfl rfl rfl (Or.inl rfl) ?_
        refine zW_p 3 rfl ?_
        refine zW_br rfl rfl (fun hQ => ?_) (fun hQ => ?_)
        · rw [I_le ⟨by omega, by omega⟩ ⟨by omega, by omega⟩] at hQ
          refine zW_p 1 rfl ?_
          exact bad2 _ (by rw [← hk, if_pos (fun q => by omega)])
        · rw [I_le ⟨by omega, by omega⟩ ⟨by omega, by omega⟩] at hQ
          rw [if_neg (fun q => q ⟨e, by omega⟩)] at hk
          refine zW_p 2 rfl ?_
          refine wS rfl rfl rfl rfl rfl rfl rfl rfl rfl F_reqT66 (by omega) ?_
          refine zW_p 3 rfl ?_
          refine wS rfl rfl rfl rfl rfl rfl rfl rfl rfl (F_between (lo := 1) (hi := 9) hn ⟨by decide, by decide⟩ ⟨by decide, by decide⟩) (by omega) ?_
          by_cases h3 : 1 ≤ n ∧ n ≤ 9
          · rw [decide_eq_true h3]
            refine zW_p 4 rfl ?_
            refine wS rfl rfl rfl rfl rfl rfl rfl rfl rfl (F_between (lo := -1) (hi := 2) ho ⟨by decide, by decide⟩ ⟨by decide, by decide⟩) (by omega) ?_
            by_cases h4 : -1 ≤ o ∧ o ≤ 2
            · rw [decide_eq_true h4]
              rw [if_neg (fun q => q ⟨h3, h4⟩)] at hk
              refine zW_p 3 rfl ?_
              refine wS rfl rfl rfl rfl rfl rfl rfl rfl rfl F_reqT37 (by omega) ?_
              refine zW_p 1 rfl ?_
              refine hW_cast H rfl hb1 rfl rfl rfl ?_
              refine hW_getr (j := fCl S i) H rfl hb1 rfl rfl rfl (Int.toNat_of_nonneg w1).symm (fun b5 hb5 => ?_)
              refine zW_p 2 rfl ?_
              refine hW_size H rfl rfl rfl hb5 rfl rfl rfl (by omega) ?_
              have w3' : (sE S 24 (fCl S i)).length ≤ 4 := w3
              refine zW_p 1 rfl ?_
              refine zW_br rfl rfl (fun hR => ?_) (fun hR => ?_)
              · rw [I_le ⟨by decide, by decide⟩ ⟨by omega, by omega⟩] at hR
                have hk4 : k = 4 := by rw [← hk, if_pos (by omega)]
                rw [hk4]
                refine zW_p 1 rfl ?_
                obtain ⟨σ1, q1, q2, q3⟩ := F_reqF39 H
                exact wST rfl rfl rfl rfl rfl rfl rfl rfl rfl q1 (by omega) rfl (Or.inl ⟨by decide, rfl, q2, q3⟩)
              · rw [I_le ⟨by decide, by decide⟩ ⟨by omega, by omega⟩] at hR
                have hk0 : k = 0 := by rw [← hk, if_neg (by omega)]
                rw [hk0]
                refine zW_p 2 rfl ?_
                refine wS rfl rfl rfl rfl rfl rfl rfl rfl rfl F_reqT39 (by omega) ?_
                refine zW_p 1 rfl ?_
                refine hW_new H rfl rfl rfl rfl rfl rfl (fun σ7 b7 H7 hb7 k7 => ?_)
                refine zW_p 4 rfl ?_
                obtain ⟨σ8, g8, ghx, x8, H8, k8⟩ := F_newComponent (p := j) (q := n) (r := o) H7 hb7
                refine wI rfl rfl rfl rfl rfl rfl rfl rfl rfl g8 (by omega) ?_
                have le2 : ∀ c', sn (snw S 4 []) c' ≤ sn (kFComponent (snw S 4 []) (sn S 4) j n o) c' := fun c' => by
                  unfold kFComponent
                  simp only [sn_set]
                  exact Nat.le_refl _
                have hbx := x8.hat (S1 := kFComponent (snw S 4 []) (sn S 4) j n o) le2 hb7
                have hb5x := x8.hat (S1 := kFComponent (snw S 4 []) (sn S 4) j n o) le2 hb5.old
                have eL : sE (kFComponent (snw S 4 []) (sn S 4) j n o) 24 (fCl S i) = sE S 24 (fCl S i) := rfl
                refine hW_add (x := (sn S 4 : Int)) H8 rfl rfl rfl hb5x rfl rfl rfl (elrepR hbx) (alvR hbx.1) (by rw [eL]; omega) rfl (by omega) (fun σ9 H9 k9 => ?_)
                refine zW_p 2 rfl ?_
                refine hW_size H9 rfl rfl rfl hb5x.ssE rfl rfl rfl (by omega) ?_
                have eN : (sE (ssE (kFComponent (snw S 4 []) (sn S 4) j n o) 24 (fCl S i) (sE (kFComponent (snw S 4 []) (sn S 4) j n o) 24 (fCl S i) ++ [(sn S 4 : Int)])) 24 (fCl S i)).length = (sE S 24 (fCl S i)).length + 1 := by
                  rw [sE_ssE, if_pos ⟨rfl, rfl⟩, eL, List.length_append]
                  rfl
                rw [eN]
                rw [eL] at k9
                exact zW_reti rfl rfl rfl (Or.inr ⟨rfl, rfl, ghx, gext.trans (gext_w gext_rfl (fun _ => Nat.le_refl _)) x8 (fun c => sn_w_le), H9, ((k7.trans k8).trans k9).mono (by omega) (by omega)⟩)
            · rw [decide_eq_false h4]
              refine zW_p 1 rfl ?_
              exact bad3 _ (by rw [← hk, if_pos (fun q => h4 q.2)])
          · rw [decide_eq_false h3]
            refine zW_p 1 rfl ?_
            exact bad3 _ (by rw [← hk, if_pos (fun q => h3 q.1)])
      · rw [e] at hb1
        refine hW_inst H rfl hb1 rfl rfl rfl (Or.inr ⟨_, rfl⟩) ?_
        refine zW_p 2 rfl ?_
        exact bad2 _ (by rw [← hk, if_pos (fun q => by omega)])
    · obtain ⟨σ1, q1, q2, q3⟩ := F_partX H hF ha hc h2
      rw [if_pos (fun q => h2 q.2)]
      exact wVT rfl rfl rfl rfl rfl rfl rfl (H.rc ha rfl rfl) q1 (by omega) rfl (Or.inl ⟨by decide, rfl, q2, q3⟩)
  · obtain ⟨σ1, q1, q2, q3⟩ := F_partX H hF ha hp h1
    rw [if_pos (fun q => h1 q.1)]
    exact wVT rfl rfl rfl rfl rfl rfl rfl (H.rc ha rfl rfl) q1 (by omega) rfl (Or.inl ⟨by decide, rfl, q2, q3⟩)
end ZFC
