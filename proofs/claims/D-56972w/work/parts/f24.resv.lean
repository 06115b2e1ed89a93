/-! THE ROOM: reserved lots are of parts that others need -/
set_option maxRecDepth 100000
/-- some part needs this one -/
def ndd (S : hS) (B : Nat) : Bool := (List.range (np S)).any (fun A => decide (0 < cT S A B))
section ZF24
variable {z : Nat → Nat} {k : Nat} {S : hS}
theorem ndd_no {B : Nat} (h : ndd S B = false) (A : Nat) : cT S A B = 0 := by
  by_cases hA : A < np S
  · refine Decidable.byContradiction (fun hne => ?_)
    have : ndd S B = true := List.any_eq_true.mpr ⟨A, List.mem_range.mpr hA, decide_eq_true (by omega)⟩
    rw [h] at this
    exact Bool.false_ne_true this
  · unfold cT
    rw [if_neg hA]
/-- reserved lots -/
theorem resv_ndd (hI : iAll z k S) (hR : iRn z S) {l : Nat} (hl : l < sn S 6) (h : 0 < sT S 6 5 l) : ndd S (ptL S l) = true := by
  refine Decidable.byContradiction (fun hne => ?_)
  have hno : ndd S (ptL S l) = false := by
    cases hh : ndd S (ptL S l) with
    | true => exact absurd hh hne
    | false => rfl
  obtain ⟨h1, -⟩ := hI.res l hl
  have hz0 : isum (sn S 8) (fun o => if fPr z S o = true then pl (fTl S o) l else 0) = isum (sn S 8) (fun _ => (0 : Int)) := isum_cg (fun o ho => by
    rw [no_taker hI hR hl (ndd_no hno) ho]
    split <;> rfl)
  rw [h1, hz0, isum_zero] at h
  omega
/-- isSound's walks over reserved lots -/
theorem pw_le (hI : iAll z k S) (hR : iRn z S) : fPwalk S (sn S 6) ≤ ns (sn S 6) (fun l => if ndd S (ptL S l) = true then nT S l else 0) := by
  unfold fPwalk
  rw [sum_range]
  refine ns_le (fun l hl => ?_)
  by_cases h : 0 < sT S 6 5 l
  · rw [if_pos h, if_pos (resv_ndd hI hR hl h)]
    exact Nat.le_refl _
  · rw [if_neg h]; exact Nat.zero_le _
/-- without promises there are none -/
theorem pw_zero (hI : iAll z k S) (hp : ∀ o : Nat, o < sn S 8 → sT S 8 7 o ≠ (z 1 : Nat)) : fPwalk S (sn S 6) = 0 := by
  unfold fPwalk
  rw [sum_range]
  refine (ns_cg (g := fun _ => 0) (fun l hl => ?_)).trans (ns_zero _)
  obtain ⟨h1, -⟩ := hI.res l hl
  have hz0 : isum (sn S 8) (fun o => if fPr z S o = true then pl (fTl S o) l else 0) = isum (sn S 8) (fun _ => (0 : Int)) := isum_cg (fun o ho => by
    have : fPr z S o = false := by
      unfold fPr
      exact decide_eq_false (hp o ho)
    rw [this, if_neg Bool.false_ne_true])
  rw [hz0, isum_zero] at h1
  rw [if_neg (by omega)]
/-- isSound's cost -/
theorem snd_le (hI : iAll z k S) : nSnd S ≤ 3 * sn S 8 + sn S 8 * (sn S 6 + 2) + (sn S 6 + sn S 8 * sn S 6 + ns (sn S 8) (fun o => ((ofs (fDv S o)).map (fun r => ((allL S).map (fun x => iw (fch S) 100 x r)).sum)).sum)) + fPwalk S (sn S 6) := by
  have h1 := backW_le hI
  have h2 := forW_le (S := S)
  unfold nSnd
  omega
end ZF24
