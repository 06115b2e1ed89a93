/-! THE ACCOUNT: charged orders below the table of releases -/
set_option maxRecDepth 100000
section ZG23
variable {z : Nat → Nat} {k l o p A B T U : Nat} {X S : hS} {ch : Nat → Bool} {c : Ctr}
/-- every made lot has its order -/
theorem b_x (hz : zInj z) (hI : iAll z k S) (hR : iRn z S) (hA : ∀ o : Nat, o < sn S 8 → sb z S o = true → ch o = true) (hm : mkL S A = true) : bL S A ≤ xN S ch A := by
  have h1 : bL S A ≤ ns (sn S 6) (fun l => ns (sn S 8) (fun o => if (ch o = true ∧ pO S o = A) ∧ sT S 8 13 o = (l : Nat) then 1 else 0)) := ns_le (fun l hl => by
    by_cases e : ptL S l = A
    · rw [if_pos e]
      obtain ⟨p, hp, e1, e2, e3⟩ := ptL_at hI hl
      have hpA : p = A := e3.symm.trans e
      subst hpA
      have hev : fPc S p % 2 = 0 := of_decide_eq_true hm
      rcases hR.1.2.1 l hl with ⟨a, -⟩ | ⟨-, -, o, ho, a3, a4, a5, -, -⟩
      · rw [e1, Int.toNat_natCast] at a
        omega
      · have hst : sT S 8 7 o = (z 4 : Nat) ∨ sT S 8 7 o = (z 5 : Nat) := by
          refine Decidable.byContradiction (fun w => ?_)
          have := (hI.or o ho).2.2.2.2.2.2.2.2.2.2.2.2.2.2.2.1 (fun a => w (Or.inl a)) (fun a => w (Or.inr a))
          omega
        have e81 : sT S 8 1 o = (fPc S p : Nat) := a5.trans e1
        have hsb : sb z S o = true := decide_eq_true ⟨by rw [e81, Int.toNat_natCast]; exact hev, fun w => by
          rcases hst with a | a
          · have := hz 4 0 (by decide) (by decide) (by omega)
            omega
          · have := hz 5 0 (by decide) (by decide) (by omega)
            omega⟩
        refine Nat.le_trans ?_ (ns_ge (f := fun o => if (ch o = true ∧ pO S o = p) ∧ sT S 8 13 o = (l : Nat) then 1 else 0) ho)
        show 1 ≤ if (ch o = true ∧ pO S o = p) ∧ sT S 8 13 o = (l : Nat) then 1 else 0
        rw [if_pos ⟨⟨hA o ho hsb, pO_at hI hp e81⟩, a3⟩]
        exact Nat.le_refl _
    · rw [if_neg e]; exact Nat.zero_le _)
  refine Nat.le_trans h1 ?_
  rw [ns_swap]
  unfold xN
  refine ns_le (fun o _ => ?_)
  by_cases w : ch o = true ∧ pO S o = A
  · rw [if_pos w]
    refine Nat.le_trans (ns_le (g := fun l => if l = (sT S 8 13 o).toNat then 1 else 0) (fun l _ => ?_)) (one_le (e := (sT S 8 13 o).toNat) (sn S 6))
    by_cases e : sT S 8 13 o = (l : Nat)
    · rw [if_pos ⟨w, e⟩, if_pos (by omega)]; exact Nat.le_refl _
    · rw [if_neg (fun q => e q.2)]; exact Nat.zero_le _
  · rw [if_neg w]
    refine Nat.le_of_eq ?_
    exact (ns_cg (g := fun _ => 0) (fun l _ => if_neg (fun q => w q.1))).trans (ns_zero _)
theorem b_none (hI : iAll z k S) (hA : ¬ A < np S) : bL S A = 0 := by
  unfold bL
  refine (ns_cg (g := fun _ => 0) (fun l hl => if_neg (fun w => ?_))).trans (ns_zero _)
  obtain ⟨p, hp, -, -, e⟩ := ptL_at hI hl
  omega
theorem b_x2 (hz : zInj z) (hI : iAll z k S) (hR : iRn z S) (hA : ∀ o : Nat, o < sn S 8 → sb z S o = true → ch o = true) : ∀ A : Nat, mkL S A = true → bL S A ≤ xN S ch A := fun A hm => b_x hz hI hR hA hm
theorem EWs_eW (hI : iAll z k S) (hR : iRn z S) : EWs S A ≤ eW (cT S) (bL S) (capL S) A A := ns_le (fun B _ => Nat.mul_le_mul_left _ (sA_le hI hR.1.2.1 hR.1.2.2))
/-- sums over charged orders, by parts -/
theorem ch_parts {f : Nat → Nat} (hI : iAll z k S) : ns (sn S 8) (fun o => if ch o = true then f (pO S o) else 0) = ns (np S) (fun A => xN S ch A * f A) := by
  have e : ns (np S) (fun A => xN S ch A * f A) = ns (np S) (fun A => ns (sn S 8) (fun o => if ch o = true ∧ pO S o = A then f A else 0)) := ns_cg (fun A _ => by
    unfold xN
    rw [Nat.mul_comm, ← ns_mul]
    refine ns_cg (fun o _ => ?_)
    by_cases w : ch o = true ∧ pO S o = A
    · rw [if_pos w, if_pos w, Nat.mul_one]
    · rw [if_neg w, if_neg w, Nat.mul_zero])
  rw [e, ns_swap]
  refine ns_cg (fun o ho => ?_)
  by_cases w : ch o = true
  · rw [if_pos w]
    have e1 := ns_one (n := np S) (j := pO S o) (v := f (pO S o)) (pO_ex hI ho).1
    refine e1.symm.trans (ns_cg (fun A _ => ?_))
    by_cases q : pO S o = A
    · rw [if_pos q.symm, if_pos ⟨w, q⟩, q]
    · rw [if_neg (fun a => q a.symm), if_neg (fun a => q a.2)]
  · rw [if_neg w]
    exact ((ns_cg (g := fun _ => 0) (fun A _ => if_neg (fun a => w a.1))).trans (ns_zero _)).symm
/-- what the charged orders' calls cost -/
theorem RLs_tr (hz : zInj z) (hI : iAll z k S) (hR : iRn z S) (hA : ∀ o : Nat, o < sn S 8 → sb z S o = true → ch o = true) (hM : ∀ o : Nat, ch o = true → o < sn S 8 ∧ (sT S 8 1 o).toNat % 2 = 0)
    (h64 : ns (np S) (ownR (cT S) (bL S) (xN S ch) (mkL S)) ≤ 64) : RLs S ch ≤ tr (ns (np S) (ownR (cT S) (bL S) (xN S ch) (mkL S))) + chN S ch * (20 * sn S 6 + 31) := by
  have h1 := rW_tab (c := cT S) (b := bL S) (mk := mkL S) (fun A => (skC hI A).1) (fun A hA => (skC hI A).2 hA) (r := xN S ch) (b_x2 hz hI hR hA) (np S) h64
  have e1 : RLs S ch = ns (sn S 8) (fun o => if ch o = true then 2 * EWs S (pO S o) else 0) + chN S ch * (20 * sn S 6 + 31) := by
    unfold RLs chN
    rw [Nat.mul_comm _ (20 * sn S 6 + 31), ← ns_mul, ← ns_add]
    refine ns_cg (fun o _ => ?_)
    by_cases w : ch o = true
    · rw [if_pos w, if_pos w, if_pos w, Nat.mul_one, Nat.add_assoc]
    · rw [if_neg w, if_neg w, if_neg w, Nat.mul_zero]
  have e2 := ch_parts (f := fun A => 2 * EWs S A) (ch := ch) hI
  have e2 : ns (sn S 8) (fun o => if ch o = true then 2 * EWs S (pO S o) else 0) = ns (np S) (fun A => xN S ch A * (2 * EWs S A)) := e2
  have h2 : ns (np S) (fun A => xN S ch A * (2 * EWs S A)) ≤ rW (cT S) (bL S) (xN S ch) (capP (bL S) (mkL S)) (mkL S) (np S) := ns_le (fun A hAn => by
    by_cases hm : mkL S A = true
    · rw [if_pos hm, Nat.mul_assoc]
      exact Nat.mul_le_mul_left _ (Nat.mul_le_mul_left 2 (EWs_eW hI hR))
    · have h0 : xN S ch A = 0 := by
        unfold xN
        refine (ns_cg (g := fun _ => 0) (fun o ho => if_neg (fun w => hm ?_))).trans (ns_zero _)
        obtain ⟨a1, a2⟩ := hM o w.1
        obtain ⟨b1, b2⟩ := pO_ex hI a1
        rw [b2, Int.toNat_natCast, w.2] at a2
        exact decide_eq_true a2
      rw [h0, Nat.zero_mul]
      exact Nat.zero_le _)
  rw [e1, e2]
  omega
end ZG23
