/-! THE ROOM: the lots of a closed set as a structure of flows, all of it -/
set_option maxRecDepth 100000
def ptK (X : hS) (Kf : Nat → Bool) (y : Nat) : Nat := if Kf y = true then ptL X y else np X
def eK (X : hS) (Kf : Nat → Bool) (y x : Nat) : Nat := if Kf y = true then eL X y x else 0
def pcK (X : hS) (Kf : Nat → Bool) (y x : Nat) : Nat := if Kf y = true then pcL X y x else 0
def bKx (X : hS) (Kf : Nat → Bool) (B : Nat) : Nat := if B < np X then bK X Kf B else sn X 6
def capKx (X : hS) (Kf : Nat → Bool) (B : Nat) : Nat := if B < np X then capP (bK X Kf) (mkL X) B else ns (sn X 6) (qL X)
section ZE12
variable {z : Nat → Nat} {k : Nat} {X : hS} {Kf : Nat → Bool}
theorem pS_K {B : Nat} {W : Nat → Bool} {f : Nat → Nat} (hB : B < np X) : pS (sn X 6) (ptK X Kf) B W f = pS (sn X 6) (ptL X) B (fun x => W x && Kf x) f := by
  unfold pS
  refine ns_cg (fun x _ => ?_)
  unfold ptK
  by_cases h : Kf x = true
  · rw [if_pos h]
    show _ = if ptL X x = B ∧ (W x && Kf x) = true then f x else 0
    rw [h, Bool.and_true]
  · have h' : Kf x = false := by cases hh : Kf x with
      | true => exact absurd hh h
      | false => rfl
    rw [if_neg h]
    show _ = if ptL X x = B ∧ (W x && Kf x) = true then f x else 0
    rw [h', Bool.and_false, if_neg (by omega), if_neg (fun w => Bool.false_ne_true w.2)]
theorem flK (hI : iAll z k X) (hL : iLt z X) (hC : iCk X) (hcl : ∀ y l : Nat, Kf y = true → l ∈ fch X y → Kf l = true) :
    flOk (sn X 6) (ptK X Kf) (qL X) (eK X Kf) (pcK X Kf) (cT X) (bKx X Kf) (capKx X Kf) := by
  obtain ⟨f1, f2, f3, f4⟩ := flT hI hL hC
  have ein : ∀ y x : Nat, 0 < eK X Kf y x → Kf y = true ∧ Kf x = true ∧ 0 < eL X y x := fun y x h => by
    unfold eK at h
    by_cases hy : Kf y = true
    · rw [if_pos hy] at h
      exact ⟨hy, hcl y x hy (List.count_pos_iff.mp h), h⟩
    · rw [if_neg hy] at h
      omega
  refine ⟨fun y x hy hx h => ?_, fun y B W hy => ?_, fun x hx => ?_, fun B => ?_⟩
  · obtain ⟨h1, h2, h3⟩ := ein y x h
    have := f1 y x hy hx h3
    unfold ptK
    rw [if_pos h1, if_pos h2]
    exact this
  · by_cases hk : Kf y = true
    · have ey : eK X Kf y = eL X y := by funext x; unfold eK; rw [if_pos hk]
      have ep : pcK X Kf y = pcL X y := by funext x; unfold pcK; rw [if_pos hk]
      have et : ptK X Kf y = ptL X y := by unfold ptK; rw [if_pos hk]
      obtain ⟨p, hp, -, -, e3⟩ := ptL_at hI hy
      by_cases hB : B < np X
      · obtain ⟨f, g1, g2, g3⟩ := flX2 (Kf := Kf) hI hL hC B (fun x => W x && Kf x) hy (fun l hl => hcl y l hk hl)
        refine ⟨f, ?_, ?_, ?_⟩
        · rw [et]; unfold cT; rw [if_pos (by omega)]; exact g1
        · rw [ey, pS_K hB]; unfold bKx; rw [if_pos hB]; exact g2
        · rw [ep, pS_K hB]; exact g3
      · refine ⟨0, Nat.zero_le _, ?_, by rw [Nat.zero_mul]; exact Nat.zero_le _⟩
        have e0 : pS (sn X 6) (ptK X Kf) B W (eK X Kf y) = 0 := by
          unfold pS
          refine (ns_cg (g := fun _ => 0) (fun x hx => ?_)).trans (ns_zero _)
          split
          · rename_i hw
            by_cases hp0 : 0 < eK X Kf y x
            · obtain ⟨h1, h2, h3⟩ := ein y x hp0
              have hb := hw.1
              unfold ptK at hb
              rw [if_pos h2] at hb
              obtain ⟨p2, hp2, -, -, e32⟩ := ptL_at hI hx
              omega
            · omega
          · rfl
        rw [e0]; exact Nat.zero_le _
    · refine ⟨0, Nat.zero_le _, ?_, by rw [Nat.zero_mul]; exact Nat.zero_le _⟩
      have e0 : pS (sn X 6) (ptK X Kf) B W (eK X Kf y) = 0 := by
        unfold pS
        refine (ns_cg (g := fun _ => 0) (fun x hx => ?_)).trans (ns_zero _)
        unfold eK
        rw [if_neg hk]
        split <;> rfl
      rw [e0]; exact Nat.zero_le _
  · refine Nat.le_trans (ns_le (fun y _ => ?_)) (f3 x hx)
    unfold pcK
    split
    · exact Nat.le_refl _
    · exact Nat.zero_le _
  · unfold capKx
    by_cases hB : B < np X
    · rw [if_pos hB, pS_K hB]
      have h1 : pS (sn X 6) (ptL X) B (fun x => true && Kf x) (qL X) ≤ pS (sn X 6) (ptL X) B (fun x => true && Kf x) (fun _ => (if mkL X B = true then 100 else 500) * 1) := pS_le (fun y hy hB _ => by
        obtain ⟨p, hp, e1, e2, e3⟩ := ptL_at hI hy
        have hpB : p = B := by omega
        subst hpB
        have h500 := (hI.lo y hy).2.2.1
        unfold qL mkL
        rcases hL y hy with ⟨g1, -⟩ | ⟨g1, g2, -⟩
        · rw [e1, Int.toNat_natCast] at g1
          rw [if_neg (by rw [decide_eq_false (by omega)]; decide)]; omega
        · rw [e1, Int.toNat_natCast] at g1
          rw [if_pos (decide_eq_true g1)]; omega)
      rw [pS_mul] at h1
      have h2 : pS (sn X 6) (ptL X) B (fun x => true && Kf x) (fun _ => 1) = bK X Kf B := by
        unfold pS bK
        exact ns_cg (fun y _ => by
          show (if ptL X y = B ∧ (true && Kf y) = true then 1 else 0) = _
          rw [Bool.true_and])
      rw [h2] at h1
      exact h1
    · rw [if_neg hB]
      unfold pS
      refine ns_le (fun y _ => ?_)
      split
      · exact Nat.le_refl _
      · exact Nat.zero_le _
end ZE12
