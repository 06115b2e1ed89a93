/-! Foundrymark.addOperation -/
set_option maxRecDepth 100000
def fOpCode (S : hS) (p m al t : Int) : Nat := if ¬ (fIsP S p ∧ (0 ≤ m ∧ m < sn S 1) ∧ (al = -1 ∨ (0 ≤ al ∧ al < sn S 1))) then 1 else if ¬ fPc S p % 2 = 0 then 2 else if ¬ (1 ≤ t ∧ t ≤ 20) then 3 else if 3 ≤ (sE S 25 (fOl S p)).length then 4 else 0
def fAddOperation (S : hS) (p m al t : Int) : hS := ssE (kFOperation (snw S 5 []) (sn S 5) m al t) 25 (fOl S p) (sE S 25 (fOl S p) ++ [(sn S 5 : Int)])
section ZFO
variable {g : zG} {w0 : hG} {σ : zS} {gh : Nat → Nat → Nat} {S : hS} {J : zw_W} {a : Nat} {p m al t : Int}
abbrev fOpQ (g : zG) (w0 : hG) (σ : zS) (gh : Nat → Nat → Nat) (S : hS) (J : zw_W) (k L : Nat) (S' : hS) : Option Value ⊕ String → zS → Prop := fun r σ' => (k ≠ 0 ∧ r = .inr (fEx4 k) ∧ hRep g w0 σ' gh S J ∧ kc σ σ' 1 6) ∨ (k = 0 ∧ r = .inl (some (iv (L + 1 : Nat))) ∧ ∃ ghx, gext S gh ghx ∧ hRep g w0 σ' ghx S' J ∧ kc σ σ' 2 40)
theorem F_addOperation (H : hRep g w0 σ gh S J) (hF : fFix S) (hP : fPart S) (ha : hat gh S 0 0 a) (hp : rg p) (hm : rg m) (hal : rg al) (ht : rg t) :
    zM g 8 70 [.ref a, iv p, iv m, iv al, iv t] σ (fOpQ g w0 σ gh S J (fOpCode S p m al t) (sE S 25 (fOl S p)).length (fAddOperation S p m al t)) := by
  generalize hk : fOpCode S p m al t = k
  unfold fOpCode at hk
  refine zW_p 2 rfl ?_
  by_cases h1 : fIsP S p
  · obtain ⟨i, rfl⟩ : ∃ i : Nat, p = i := ⟨p.toNat, (Int.toNat_of_nonneg h1.1).symm⟩
    have hi : i < (sE S 21 0).length := by have := h1.2; omega
    obtain ⟨b1, hb1, g1⟩ := F_part H hF ha (fPc_at hF hi)
    refine wV rfl rfl rfl rfl rfl rfl rfl (H.rc ha rfl rfl) g1 (by omega) ?_
    refine zW_p 3 rfl ?_
    by_cases h2 : 0 ≤ m ∧ m < sn S 1
    · obtain ⟨j, rfl⟩ : ∃ j : Nat, m = j := ⟨m.toNat, (Int.toNat_of_nonneg h2.1).symm⟩
      obtain ⟨b2, hb2, g2⟩ := F_machine H hF ha (show j < sn S 1 by omega)
      refine wV rfl rfl rfl rfl rfl rfl rfl (H.rc ha rfl rfl) g2 (by omega) ?_
      refine zW_p 4 rfl ?_
      -- behind the three look-ups
      have rest : (al = -1 ∨ (0 ≤ al ∧ al < sn S 1)) → zW g 8 70 28 [(0, .ref a), (1, iv i), (2, iv j), (3, iv al), (4, iv t), (5, .ref b1)] [] σ (fOpQ g w0 σ gh S J k (sE S 25 (fOl S i)).length (fAddOperation S i j al t)) := by
        intro h3
        rw [if_neg (fun q => q ⟨h1, h2, h3⟩)] at hk
        refine zW_p 1 rfl ?_
        rcases (show fPc S i % 2 = 0 ∨ fPc S i % 2 = 1 by omega) with e | e
        · rw [e] at hb1
          obtain ⟨w1, w2, w3, w4⟩ := hP _ hb1.1
          rw [if_neg (fun q => q e)] at hk
          refine hW_inst H rfl hb1 rfl rfl rfl (Or.inl rfl) ?_
          refine wS rfl rfl rfl rfl rfl rfl rfl rfl rfl F_reqT66 (by omega) ?_
          refine zW_p 3 rfl ?_
          refine wS rfl rfl rfl rfl rfl rfl rfl rfl rfl (F_between (lo := 1) (hi := 20) ht ⟨by decide, by decide⟩ ⟨by decide, by decide⟩) (by omega) ?_
          by_cases h4 : 1 ≤ t ∧ t ≤ 20
          · rw [decide_eq_true h4]
            rw [if_neg (fun q => q h4)] at hk
            refine wS rfl rfl rfl rfl rfl rfl rfl rfl rfl F_reqT37 (by omega) ?_
            refine zW_p 1 rfl ?_
            refine hW_cast H rfl hb1 rfl rfl rfl ?_
            refine hW_getr (j := fOl S i) H rfl hb1 rfl rfl rfl (Int.toNat_of_nonneg w2).symm (fun b5 hb5 => ?_)
            refine zW_p 2 rfl ?_
            refine hW_size H rfl rfl rfl hb5 rfl rfl rfl (by omega) ?_
            have w4' : (sE S 25 (fOl S i)).length ≤ 3 := w4
            refine zW_p 1 rfl ?_
            refine zW_br rfl rfl (fun hR => ?_) (fun hR => ?_)
            · rw [I_le ⟨by decide, by decide⟩ ⟨by omega, by omega⟩] at hR
              have hk4 : k = 4 := by rw [← hk, if_pos (by omega)]
              rw [hk4]
              refine zW_p 1 rfl ?_
              obtain ⟨σ1, q1, q2, q3⟩ := F_reqF39 H
              exact wST rfl rfl rfl rfl rfl rfl rfl rfl rfl q1 (by omega) rfl (Or.inl ⟨by decide, rfl, q2, q3⟩)
            · rw [I_le ⟨by decide, by decide⟩ ⟨by omega, by omega⟩] at hR
              have hk0 : k = 0 := by rw [← hk, if_neg (by omega)]
              rw [hk0]
              refine zW_p 2 rfl ?_
              refine wS rfl rfl rfl rfl rfl rfl rfl rfl rfl F_reqT39 (by omega) ?_
              refine zW_p 1 rfl ?_
              refine hW_new H rfl rfl rfl rfl rfl rfl (fun σ7 b7 H7 hb7 k7 => ?_)
              refine zW_p 4 rfl ?_
              obtain ⟨σ8, g8, ghx, x8, H8, k8⟩ := F_newOperation (p := j) (q := al) (r := t) H7 hb7
              refine wI rfl rfl rfl rfl rfl rfl rfl rfl rfl g8 (by omega) ?_
              have le2 : ∀ c', sn (snw S 5 []) c' ≤ sn (kFOperation (snw S 5 []) (sn S 5) j al t) c' := fun c' => by
                unfold kFOperation
                simp only [sn_set]
                exact Nat.le_refl _
              have hbx := x8.hat (S1 := kFOperation (snw S 5 []) (sn S 5) j al t) le2 hb7
              have hb5x := x8.hat (S1 := kFOperation (snw S 5 []) (sn S 5) j al t) le2 hb5.old
              have eL : sE (kFOperation (snw S 5 []) (sn S 5) j al t) 25 (fOl S i) = sE S 25 (fOl S i) := rfl
              refine hW_add (x := (sn S 5 : Int)) H8 rfl rfl rfl hb5x rfl rfl rfl (elrepR hbx) (alvR hbx.1) (by rw [eL]; omega) rfl (by omega) (fun σ9 H9 k9 => ?_)
              refine zW_p 2 rfl ?_
              refine hW_size H9 rfl rfl rfl hb5x.ssE rfl rfl rfl (by omega) ?_
              have eN : (sE (ssE (kFOperation (snw S 5 []) (sn S 5) j al t) 25 (fOl S i) (sE (kFOperation (snw S 5 []) (sn S 5) j al t) 25 (fOl S i) ++ [(sn S 5 : Int)])) 25 (fOl S i)).length = (sE S 25 (fOl S i)).length + 1 := by
                rw [sE_ssE, if_pos ⟨rfl, rfl⟩, eL, List.length_append]
                rfl
              rw [eN]
              rw [eL] at k9
              exact zW_reti rfl rfl rfl (Or.inr ⟨rfl, rfl, ghx, gext.trans (gext_w gext_rfl (fun _ => Nat.le_refl _)) x8 (fun c => sn_w_le), H9, ((k7.trans k8).trans k9).mono (by omega) (by omega)⟩)
          · rw [decide_eq_false h4]
            have hk3 : k = 3 := by rw [← hk, if_pos h4]
            rw [hk3]
            obtain ⟨σ1, q1, q2, q3⟩ := F_reqF37 H
            exact wST rfl rfl rfl rfl rfl rfl rfl rfl rfl q1 (by omega) rfl (Or.inl ⟨by decide, rfl, q2, q3⟩)
        · rw [e] at hb1
          have hk2 : k = 2 := by rw [← hk, if_pos (by omega)]
          rw [hk2]
          refine hW_inst H rfl hb1 rfl rfl rfl (Or.inr ⟨_, rfl⟩) ?_
          obtain ⟨σ1, q1, q2, q3⟩ := F_reqF66 H
          exact wST rfl rfl rfl rfl rfl rfl rfl rfl rfl q1 (by omega) rfl (Or.inl ⟨by decide, rfl, q2, q3⟩)
      refine zW_br rfl rfl (fun hQ => ?_) (fun hQ => ?_)
      · have ha1 : ¬ al = -1 := fun e => hQ (by rw [e])
        refine zW_p 1 rfl ?_
        by_cases h3 : 0 ≤ al ∧ al < sn S 1
        · obtain ⟨q, rfl⟩ : ∃ q : Nat, al = q := ⟨al.toNat, (Int.toNat_of_nonneg h3.1).symm⟩
          obtain ⟨b3, hb3, g3⟩ := F_machine H hF ha (show q < sn S 1 by omega)
          refine wV rfl rfl rfl rfl rfl rfl rfl (H.rc ha rfl rfl) g3 (by omega) ?_
          refine zW_p 1 rfl ?_
          exact zW_lv [(0, .ref a), (1, iv i), (2, iv j), (3, iv q), (4, iv t), (5, .ref b1)] rfl ⟨rfl, rfl, rfl, rfl, rfl, rfl, trivial⟩ (rest (Or.inr h3))
        · obtain ⟨σ1, q1, q2, q3⟩ := F_machineX H hF ha hal h3
          have hk1 : k = 1 := by rw [← hk, if_pos (fun q => by omega)]
          rw [hk1]
          exact wVT rfl rfl rfl rfl rfl rfl rfl (H.rc ha rfl rfl) q1 (by omega) rfl (Or.inl ⟨by decide, rfl, q2, q3⟩)
      · have ha1 : al = -1 := by
          by_cases e : al = -1
          · exact e
          · exact absurd (fun q => e ((I_eq hal ⟨by decide, by decide⟩).mp q)) hQ
        refine zW_p 2 rfl ?_
        refine wV rfl rfl rfl rfl rfl rfl rfl (H.rc ha rfl rfl) g2 (by omega) ?_
        refine zW_p 1 rfl ?_
        exact zW_lv [(0, .ref a), (1, iv i), (2, iv j), (3, iv al), (4, iv t), (5, .ref b1)] rfl ⟨rfl, rfl, rfl, rfl, rfl, rfl, trivial⟩ (rest (Or.inl ha1))
    · obtain ⟨σ1, q1, q2, q3⟩ := F_machineX H hF ha hm h2
      have hk1 : k = 1 := by rw [← hk, if_pos (fun q => h2 q.2.1)]
      rw [hk1]
      exact wVT rfl rfl rfl rfl rfl rfl rfl (H.rc ha rfl rfl) q1 (by omega) rfl (Or.inl ⟨by decide, rfl, q2, q3⟩)
  · obtain ⟨σ1, q1, q2, q3⟩ := F_partX H hF ha hp h1
    have hk1 : k = 1 := by rw [← hk, if_pos (fun q => h1 q.1)]
    rw [hk1]
    exact wVT rfl rfl rfl rfl rfl rfl rfl (H.rc ha rfl rfl) q1 (by omega) rfl (Or.inl ⟨by decide, rfl, q2, q3⟩)
end ZFO
