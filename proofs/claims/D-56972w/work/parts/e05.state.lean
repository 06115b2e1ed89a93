/-! THE ROOM: a state's promises, by its structure -/
set_option maxRecDepth 100000
/-- all nodes of the trees of a part's lots -/
def sA (X : hS) (A : Nat) : Nat := pS (sn X 6) (ptL X) A (fun _ => true) (nT X)
/-- components, of parts that there are -/
def cT (X : hS) (A B : Nat) : Nat := if A < np X then cL X A B else 0
abbrev capL (X : hS) : Nat → Nat := capP (bL X) (mkL X)
section ZE5
variable {z : Nat → Nat} {k o l A : Nat} {X Y : hS}
theorem bL_pS : pS (sn X 6) (ptL X) A (fun _ => true) (fun _ => 1) = bL X A := by
  unfold pS bL
  exact ns_cg (fun y _ => by
    by_cases e : ptL X y = A
    · rw [if_pos ⟨e, rfl⟩, if_pos e]
    · rw [if_neg (fun w => e w.1), if_neg e])
/-- a load on a part's lots: the flow theorem in a state -/
theorem flT (hI : iAll z k X) (hL : iLt z X) (hC : iCk X) : flOk (sn X 6) (ptL X) (qL X) (eL X) (pcL X) (cT X) (bL X) (capL X) := by
  obtain ⟨f1, f2, f3, f4⟩ := flX hI hL hC
  have e : ∀ y B : Nat, y < sn X 6 → cT X (ptL X y) B = cL X (ptL X y) B := fun y B hy => by
    obtain ⟨p, hp, -, -, e3⟩ := ptL_at hI hy
    unfold cT
    rw [e3, if_pos hp]
  refine ⟨fun y x hy hx h => ?_, fun y B W hy => ?_, f3, f4⟩
  · rw [e y _ hy]
    exact f1 y x hy hx h
  · obtain ⟨f, g1, g2, g3⟩ := f2 y B W hy
    exact ⟨f, by rw [e y _ hy]; exact g1, g2, g3⟩
theorem flowX (hI : iAll z k X) (hL : iLt z X) (hC : iCk X) (u : Nat → Nat) (nu R : Nat) (hu : ∀ V : Nat → Bool, pS (sn X 6) (ptL X) A V u ≤ nu + pS (sn X 6) (ptL X) A V (qL X)) (ht : pS (sn X 6) (ptL X) A (fun _ => true) u ≤ nu + R) :
    pS (sn X 6) (ptL X) A (fun _ => true) (fun y => u y * nT X y) ≤ (1 + ao (cT X) (bL X) A) * nu + (R + ho (cT X) (bL X) (capL X) A R) :=
  flow (flT hI hL hC) sk_ok (fun y hy => bL_pos hy) (fun y hy => nT_rec hI hy) A u nu R hu ht
theorem qL_pos (hI : iAll z k X) (hl : l < sn X 6) : 1 ≤ qL X l := by
  have := (hI.lo l hl).2.2.1
  unfold qL; omega
theorem sA_le (hI : iAll z k X) (hL : iLt z X) (hC : iCk X) : sA X A ≤ if 0 < bL X A then bL X A + ho (cT X) (bL X) (capL X) A (bL X A) else 0 := by
  by_cases hb : 0 < bL X A
  · rw [if_pos hb]
    have h := flowX (A := A) hI hL hC (fun _ => 1) 0 (bL X A) (fun V => by
      rw [Nat.zero_add]
      exact pS_le (fun y hy _ _ => qL_pos hI hy)) (by rw [bL_pS]; omega)
    rw [Nat.mul_zero, Nat.zero_add] at h
    refine Nat.le_trans (Nat.le_of_eq ?_) h
    unfold sA
    exact pS_cg (fun y _ _ _ => (Nat.one_mul _).symm)
  · rw [if_neg hb]
    have h0 : ∀ y : Nat, y < sn X 6 → ptL X y ≠ A := fun y hy e => by
      have := bL_pos (X := X) hy
      rw [e] at this
      omega
    unfold sA pS
    refine Nat.le_of_eq ((ns_cg (g := fun _ => 0) (fun y hy => if_neg (fun w => h0 y hy w.1))).trans (ns_zero _))
theorem wC_sA (hI : iAll z k X) {j : Int} (h0 : 0 ≤ sT X 4 0 j.toNat) : wC X j = sA X (sT X 4 0 j.toNat).toNat := by
  unfold wC sA pS
  refine ns_cg (fun l hl => ?_)
  obtain ⟨p, -, -, e2, e3⟩ := ptL_at hI hl
  unfold fWalk
  by_cases e : fPnum X l = sT X 4 0 j.toNat
  · rw [if_pos e, if_pos ⟨by rw [e3]; omega, rfl⟩]; rfl
  · rw [if_neg e, if_neg (fun w => e (by have := w.1; rw [e3] at this; omega))]
/-- an order's part by its number -/
theorem comps_sum (hI : iAll z k X) (ho : o < sn X 8) (hmd : (sT X 8 1 o).toNat % 2 = 0) : ∃ p : Nat, p < np X ∧ sT X 8 1 o = fPc X p ∧ fPc X p % 2 = 0 ∧ cW X o (fComps X o).length = ns p (fun B => cL X p B * sA X B) := by
  obtain ⟨p, hp, e1⟩ := (hI.or o ho).2.1
  have hev : fPc X p % 2 = 0 := by rw [e1, Int.toNat_natCast] at hmd; exact hmd
  obtain ⟨ec, hi2⟩ := comps_at (o := o) hI.pt hp hev e1 rfl
  refine ⟨p, hp, e1, hev, ?_⟩
  have hlt : ∀ x ∈ cP X p, x < p := fun x hx => by
    unfold cP at hx
    rw [if_pos hev] at hx
    obtain ⟨j, hj, rfl⟩ := List.mem_map.mp hx
    have := cmp_part hI hp hev hj
    omega
  have h1 := ns_mapsum (n := p) (g := sA X) (cP X p) hlt
  unfold cL
  rw [← h1]
  unfold cW cP
  rw [if_pos hev, List.take_length, ec, List.map_map]
  congr 1
  exact List.map_congr_left (fun j hj => wC_sA hI (cmp_part hI hp hev hj).1)
theorem comps_eW (hI : iAll z k X) (hL : iLt z X) (hC : iCk X) (ho : o < sn X 8) (hmd : (sT X 8 1 o).toNat % 2 = 0) : ∃ p : Nat, p < np X ∧ sT X 8 1 o = fPc X p ∧ fPc X p % 2 = 0 ∧ cW X o (fComps X o).length ≤ eW (cT X) (bL X) (capL X) p p := by
  obtain ⟨p, h1, h2, h3, h4⟩ := comps_sum hI ho hmd
  refine ⟨p, h1, h2, h3, ?_⟩
  rw [h4]
  refine ns_le (fun B _ => ?_)
  have e : cT X p B = cL X p B := if_pos h1
  rw [e]
  exact Nat.mul_le_mul_left _ (sA_le hI hL hC)
/-- a state's skeleton: at most four components, none of bought parts -/
theorem skC (hI : iAll z k X) (A : Nat) : ns A (cT X A) ≤ 4 ∧ (mkL X A = false → ns A (cT X A) = 0) := by
  by_cases hA : A < np X
  · have e : ns A (cT X A) = ns A (cL X A) := ns_cg (fun B _ => if_pos hA)
    rw [e]
    have key : ns A (cL X A) ≤ (cP X A).length := by
      have e : ∀ M : List Nat, ns A (fun B => M.count B) ≤ M.length := by
        intro M
        induction M with
        | nil =>
          refine Nat.le_of_eq ((ns_cg (g := fun _ => 0) (fun B _ => List.count_nil)).trans (ns_zero _))
        | cons x M ih =>
          have e1 : ns A (fun B => (x :: M).count B) = ns A (fun B => M.count B) + ns A (fun B => if B = x then 1 else 0) := by
            rw [← ns_add]
            refine ns_cg (fun B _ => ?_)
            by_cases h : B = x
            · subst h
              rw [List.count_cons_self, if_pos rfl]
            · rw [List.count_cons_of_ne (fun w => h w.symm), if_neg h, Nat.add_zero]
          rw [e1, List.length_cons]
          by_cases hx : x < A
          · rw [ns_one hx]; omega
          · have z0 : ns A (fun B => if B = x then 1 else 0) = 0 := (ns_cg (g := fun _ => 0) (fun B hB => if_neg (by omega))).trans (ns_zero _)
            omega
      exact e (cP X A)
    have h4 : (cP X A).length ≤ 4 := by
      unfold cP
      split
      · rename_i hev
        rw [List.length_map]
        rcases hI.pt.pc hA with ⟨q1, q2, q3⟩ | ⟨q1, q2, q3⟩
        · exact (hI.pt.2.2.2.1 _ q2).2.2.1
        · omega
      · exact Nat.zero_le _
    refine ⟨by omega, fun hm => ?_⟩
    have : cP X A = [] := by
      unfold cP
      rw [if_neg (of_decide_eq_false hm)]
    rw [this] at key
    exact Nat.le_zero.mp key
  · have e : ns A (cT X A) = 0 := (ns_cg (g := fun _ => 0) (fun B _ => if_neg hA)).trans (ns_zero _)
    rw [e]
    exact ⟨Nat.zero_le _, fun _ => rfl⟩
end ZE5
