/-! THE ROOM: a list of lots looked through for many; what is in no tree of the list isn't late; the top itself isn't outside -/
set_option maxRecDepth 100000
/-- those of U in no tree of L -/
def outL (X : hS) (U L : List Nat) : List Nat := U.filter (fun x => L.all (fun y => !hB X x y))
section ZG25
variable {z : Nat → Nat} {k : Nat} {X : hS} {r a : Nat}
/-- a list of lots, looked through for all of U; late lots but those in no tree of the list -/
theorem list_late2 {μ : Nat → Nat} (hI : iAll z k X) (hL : iLt z X) (hC : iCk X) : ∀ (L U : List Nat), (∀ y ∈ L, y < sn X 6 ∧ kB X (ptL X y) ≤ 62) → U.Nodup → (∀ x ∈ U, x < sn X 6) → nbo X U ≤ a → (∀ y ∈ L, (out (fch X) 100 U y).length ≤ μ y) →
    (U.map (fun x => lW (fch X) 100 x L)).sum + ns (np X) (fun B => if (L.any (fun y => decide (ptL X y = B))) = true then eaS X a B (cnB X (outL X U L) B) else 0) ≤ (L.map (fun y => μ y * nT X y)).sum + ns (np X) (fun B => if (L.any (fun y => decide (ptL X y = B))) = true then eaS X a B (cnB X U B) else 0)
  | [], U, _, _, _, _, _ => by
    have : ∀ U : List Nat, (U.map (fun x => lW (fch X) 100 x [])).sum = 0 := by
      intro U
      induction U with
      | nil => rfl
      | cons x U ih => rw [List.map_cons, List.sum_cons, ih]; rfl
    rw [this, Nat.zero_add]
    refine Nat.le_trans (Nat.le_of_eq ((ns_cg (g := fun _ => 0) (fun B _ => if_neg (by rw [List.any_nil]; exact Bool.false_ne_true))).trans (ns_zero _))) (Nat.zero_le _)
  | y :: L, U, hy, hnd, hU, ha, hμ => by
    obtain ⟨hy6, hy62⟩ := hy y List.mem_cons_self
    obtain ⟨p, hp, -, -, e3⟩ := ptL_at hI hy6
    have h100 := hI.n100
    rw [lW_sum U]
    -- what isn't found in y
    have hoN : (out (fch X) 100 U y).Nodup := hnd.filter _
    have hoU : ∀ x ∈ out (fch X) 100 U y, x < sn X 6 := fun x hx => hU x (List.mem_filter.mp hx).1
    have hoa : nbo X (out (fch X) 100 U y) ≤ a := by
      refine Nat.le_trans ?_ ha
      unfold nbo
      exact (List.Sublist.filter _ List.filter_sublist).length_le
    have ih := list_late2 hI hL hC L (out (fch X) 100 U y) (fun w hw => hy w (List.mem_cons_of_mem _ hw)) hoN hoU hoa (fun w hw => Nat.le_trans (List.Sublist.length_le (List.Sublist.filter _ List.filter_sublist)) (hμ w (List.mem_cons_of_mem _ hw)))
    have h1 := hμ y List.mem_cons_self
    have h2 : (out (fch X) 100 U y).length * nT X y ≤ μ y * nT X y := Nat.mul_le_mul_right _ h1
    have eT : tN (fch X) 100 y = nT X y := rfl
    -- what is found in y
    have hlow : ∀ x ∈ got (fch X) 100 U y, x = y ∨ ptL X x < ptL X y := fun x hx => by
      obtain ⟨g1, g2⟩ := List.mem_filter.mp hx
      rcases tree_lt hI hL hC (y + 1) y x (by omega) hy6 (inn_tIn.mp g2) with e | ⟨-, e⟩
      · exact Or.inl e
      · exact Or.inr e
    have h3 : ((got (fch X) 100 U y).map (fun x => iw (fch X) 100 x y)).sum = (((got (fch X) 100 U y).filter (fun l => decide (ptL X l < ptL X y))).map (fun x => iw (fch X) 100 x y)).sum := sum_filter _ (fun x hx hf => by
      rcases hlow x hx with e | e
      · unfold iw
        rw [if_pos (beq_iff_eq.mpr e.symm)]
      · exact absurd e (of_decide_eq_false hf))
    have hsplit : cnB X U (ptL X y) = cnB X (out (fch X) 100 U y) (ptL X y) + ((got (fch X) 100 U y).filter (fun l => decide (ptL X l < ptL X y))).length := by
      unfold cnB out got
      clear ih h1 h2 h3 hlow hoN hoU hoa hnd hU ha hμ
      induction U with
      | nil => rfl
      | cons x U ihU =>
        cases hi : inn (fch X) 100 x y <;> cases hq : decide (ptL X x < ptL X y) <;> simp only [List.filter_cons, hi, hq, Bool.not_true, Bool.not_false, if_pos, if_false, if_true, Bool.false_eq_true, List.length_cons] <;> omega
    have hfin : (((got (fch X) 100 U y).filter (fun l => decide (ptL X l < ptL X y))).map (fun x => iw (fch X) 100 x y)).sum ≤ ns ((got (fch X) 100 U y).filter (fun l => decide (ptL X l < ptL X y))).length (fun i => gE (cN X (ptL X y)) (kB X (ptL X y)) a (cnB X (out (fch X) 100 U y) (ptL X y) + i + 1)) := by
      have hp : (out (fch X) 100 U y ++ got (fch X) 100 U y).Perm U := by
        have := List.filter_append_perm (fun x => !inn (fch X) 100 x y) U
        have e : U.filter (fun x => !(!inn (fch X) 100 x y)) = got (fch X) 100 U y := by
          unfold got
          exact List.filter_congr (fun x _ => Bool.not_not _)
        rw [e] at this
        exact this
      have hsl : ((out (fch X) 100 U y).filter (fun l => decide (ptL X l < ptL X y)) ++ (got (fch X) 100 U y).filter (fun l => decide (ptL X l < ptL X y))).Sublist (out (fch X) 100 U y ++ got (fch X) 100 U y) := List.Sublist.append List.filter_sublist List.filter_sublist
      have hnd2 := (hp.nodup_iff.mpr hnd).sublist hsl
      refine late hI hL hC hy6 hy62 _ _ hnd2 (fun x hx => ?_) (fun x hx => ?_) (fun x hx => ?_) ?_
      · refine ⟨hU x (hp.subset (hsl.subset hx)), ?_⟩
        rcases List.mem_append.mp hx with h | h <;> exact of_decide_eq_true (List.mem_filter.mp h).2
      · exact (List.mem_filter.mp (List.mem_filter.mp hx).1).2
      · have h5 := (List.mem_filter.mp (List.mem_filter.mp hx).1).2
        unfold hB
        cases hh : inn (fch X) 100 x y with
        | true => rw [hh] at h5; exact absurd h5 (by decide)
        | false => rfl
      · refine Nat.le_trans ?_ ha
        unfold nbo
        rw [← (hp.filter _).length_eq]
        exact (hsl.filter _).length_le
    have hadd := eaS_add (X := X) (a := a) (B := ptL X y) (s := cnB X (out (fch X) 100 U y) (ptL X y)) ((got (fch X) 100 U y).filter (fun l => decide (ptL X l < ptL X y))).length
    rw [← hsplit] at hadd
    rw [List.map_cons, List.sum_cons, h3, eT]
    have eo : outL X U (y :: L) = outL X (out (fch X) 100 U y) L := by
      unfold outL out
      rw [List.filter_filter]
      refine List.filter_congr (fun x _ => ?_)
      rw [List.all_cons, Bool.and_comm]
      rfl
    rw [eo]
    -- the parts' shares
    have hB1 : ns (np X) (fun B => if (L.any (fun y => decide (ptL X y = B))) = true then eaS X a B (cnB X (out (fch X) 100 U y) B) else 0) + ns (np X) (fun B => if ((y :: L).any (fun y => decide (ptL X y = B))) = true then eaS X a B (cnB X (outL X (out (fch X) 100 U y) L) B) else 0) + ns ((got (fch X) 100 U y).filter (fun l => decide (ptL X l < ptL X y))).length (fun i => gE (cN X (ptL X y)) (kB X (ptL X y)) a (cnB X (out (fch X) 100 U y) (ptL X y) + i + 1)) ≤ ns (np X) (fun B => if ((y :: L).any (fun y => decide (ptL X y = B))) = true then eaS X a B (cnB X U B) else 0) + ns (np X) (fun B => if (L.any (fun y => decide (ptL X y = B))) = true then eaS X a B (cnB X (outL X (out (fch X) 100 U y) L) B) else 0) := by
      have e := ns_one (n := np X) (j := ptL X y) (v := ns ((got (fch X) 100 U y).filter (fun l => decide (ptL X l < ptL X y))).length (fun i => gE (cN X (ptL X y)) (kB X (ptL X y)) a (cnB X (out (fch X) 100 U y) (ptL X y) + i + 1))) (by omega)
      rw [← e, ← ns_add, ← ns_add, ← ns_add]
      refine ns_le (fun B _ => ?_)
      have hle : cnB X (out (fch X) 100 U y) B ≤ cnB X U B := by
        unfold cnB
        exact (List.Sublist.filter _ List.filter_sublist).length_le
      have hm := eaS_mono (X := X) (a := a) (B := B) hle
      have hle2 : cnB X (outL X (out (fch X) 100 U y) L) B ≤ cnB X (out (fch X) 100 U y) B := by
        unfold cnB outL
        exact (List.Sublist.filter _ List.filter_sublist).length_le
      have hm2 := eaS_mono (X := X) (a := a) (B := B) hle2
      rw [List.any_cons]
      by_cases hBy : B = ptL X y
      · subst hBy
        have c1 : (decide (ptL X y = ptL X y) || L.any (fun w => decide (ptL X w = ptL X y))) = true := by
          rw [decide_eq_true rfl]; rfl
        rw [if_pos rfl, if_pos c1]
        rw [← hadd]
        split <;> omega
      · rw [if_neg hBy, Nat.add_zero]
        have : decide (ptL X y = B) = false := decide_eq_false (fun w => hBy w.symm)
        rw [this, Bool.false_or]
        split
        · exact Nat.add_le_add_right hm _
        · exact Nat.le_refl _
    omega
end ZG25
