/-! THE ROOM: a delivery takes the order's own lot, whole -/
set_option maxRecDepth 100000
section ZF17
variable {z : Nat → Nat} {k k2 o l : Nat} {X Y S S2 T G : hS}
/-- from a part that no other needs nobody takes -/
theorem no_taker (hI : iAll z k S) (hR : iRn z S) {y q : Nat} (hy : y < sn S 6) (hc : ∀ A : Nat, cT S A (ptL S y) = 0) (hq : q < sn S 8) : pl (fTl S q) y = 0 := by
  refine pl_zero (fun e he hey => ?_)
  obtain ⟨⟨-, -, hC⟩, hM, -⟩ := hR
  have hne : sE S 26 (fOL S q) ≠ [] := fun w => by
    unfold fTl at he
    rw [w] at he
    exact absurd he List.not_mem_nil
  obtain ⟨cs, c1, c2, c3, -⟩ := hC q hq hne
  rw [← c1] at he
  obtain ⟨L, hL, heL⟩ := List.mem_flatten.mp he
  obtain ⟨c, hcs, rfl⟩ := List.mem_map.mp hL
  obtain ⟨l, l1, l2, l3, -⟩ := (c3 c hcs).2.1 e heL
  have : l = y := by omega
  subst this
  have hmd := hM q hq hne
  obtain ⟨p, hp, e1⟩ := (hI.or q hq).2.1
  have hev : fPc S p % 2 = 0 := by rw [e1, Int.toNat_natCast] at hmd; exact hmd
  obtain ⟨ec, -⟩ := comps_at (o := q) hI.pt hp hev e1 rfl
  have hcm : c.1 ∈ fComps S q := c2.subset (List.mem_map_of_mem hcs)
  rw [ec] at hcm
  have h0 := hc p
  unfold cT at h0
  rw [if_pos hp] at h0
  have hin : ptL S l ∈ cP S p := by
    unfold cP
    rw [if_pos hev]
    exact List.mem_map.mpr ⟨c.1, hcm, by unfold ptL; rw [l3]⟩
  have := List.count_pos_iff.mpr hin
  unfold cL at h0
  omega
/-- a plan that gets all from the first lot -/
theorem dPl_one (hI : iAll z k S) {y : Nat} {L : List Nat} {n : Int} (hn : 1 ≤ n) (hd : dav S y = n) (hL : ∀ l ∈ L, l < sn S 6) : (dPl S (y :: L) n).1 = [((y : Int), n)] := by
  have h1 : dSt S ([], n) y = ([((y : Int), n)], 0) := by
    unfold dSt
    have e : imin n (dav S y) = n := by
      rw [hd]
      unfold imin
      split <;> rfl
    show (if 0 < imin n (dav S y) then ([] ++ [((y : Int), imin n (dav S y))], n - imin n (dav S y)) else ([], n)) = _
    rw [e, if_pos (by omega), Int.sub_self]
    rfl
  have h2 : ∀ (L : List Nat), (∀ l ∈ L, l < sn S 6) → L.foldl (dSt S) ([((y : Int), n)], 0) = ([((y : Int), n)], 0) := by
    intro L
    induction L with
    | nil => intro _; rfl
    | cons l L ih =>
      intro hL
      have e : dSt S ([((y : Int), n)], 0) l = ([((y : Int), n)], 0) := by
        unfold dSt
        refine if_neg ?_
        have := (dav_range hI (hL l List.mem_cons_self)).1
        show ¬ 0 < imin 0 (dav S l)
        unfold imin
        split <;> omega
      rw [List.foldl_cons, e]
      exact ih (fun d hd => hL d (List.mem_cons_of_mem _ hd))
  show (L.foldl (dSt S) (dSt S ([], n) y)).1 = _
  rw [h1, h2 L hL]
theorem i6Dl {v : Int} (hz : zInj z) (hRr : rR z S S) (hI : iAll z k S) (hMS : mShape S) (hB : mBox S) (hI2 : iAll z k2 S2) (hR : iRn z S) (h : pDl z S S2 v) (h0 : i0 z S) (h7 : i7 S) (h8 : i8 S) (h9 : i9 S) (h6 : i6 z S) : i6 z S2 := by
  have g := (stDl hz hRr hI hMS hB hI2 hR h).1
  obtain ⟨kf, hd⟩ := dlL hz hRr hI hMS hB hI2 hR h
  rcases hd with hd | ⟨o, ho, hst, h87, hes⟩
  · exact i6_of g hI h0 hd h6
  · intro q hq hm h5 hc
    rw [kf.1] at hq
    rw [g.2.2.1.2 1 q hq (by decide)] at hm
    by_cases e : q = o
    · subst e
      have h4 : sT S 8 7 q = (z 4 : Nat) := by
        unfold fDelOk fStg at hst
        rw [Bool.or_eq_true, Bool.and_eq_true] at hst
        rcases hst with ⟨a, -⟩ | a
        · have := of_decide_eq_true a
          omega
        · exact of_decide_eq_true a
      obtain ⟨-, b⟩ := h0 q ho hm 4 (by decide) (by decide) h4
      obtain ⟨b1, b2⟩ := b (by decide)
      have hOo := hI.or q ho
      have h13 := hOo.2.2.2.2.2.2.2.2.2.2.1
      have h61 := hOo.2.2.2.2.2.2.2.2.2.2.2.2.2.2.2.2 b1
      obtain ⟨y, hy⟩ : ∃ y : Nat, sT S 8 13 q = (y : Nat) := ⟨(sT S 8 13 q).toNat, by omega⟩
      have hy6 : y < sn S 6 := by omega
      rw [kf.2 q, hy, Int.toNat_natCast] at hc ⊢
      rw [hy, Int.toNat_natCast] at b2 h61
      rw [pt_gW g hI hy6] at hc
      have hcS : ∀ A : Nat, cT S A (ptL S y) = 0 := fun A => cT_gW g hI (hc A)
      have hmy : (sT S 6 1 y).toNat % 2 = 0 := by rw [h61]; exact hm
      have hfree := h7.made hI hR.1.2.1 hy6 hmy
      -- nobody has pieces of it
      have hav : av S y = sT S 8 2 q := by
        obtain ⟨e1, -⟩ := av_eq hI hy6
        have hz0 : isum (sn S 8) (fun o => pl (fTl S o) y + pl (fDv S o) y) = isum (sn S 8) (fun _ => (0 : Int)) := isum_cg (fun r hr => by
          rw [no_taker hI hR hy6 hcS hr]
          have : pl (fDv S r) y = 0 := pl_zero (fun e he hey => by
            have hr1 := h9 r hr e he
            have hey' : e.1.toNat = y := by omega
            rw [hey', h61] at hr1
            have hmr : (sT S 8 1 r).toNat % 2 = 0 := by rw [← hr1]; exact hm
            have hr5 : sT S 8 7 r = (z 5 : Nat) := Decidable.byContradiction (fun w => by
              have := (hI.em r hr).2.1 w
              unfold fDv at he
              rw [this] at he
              exact absurd he List.not_mem_nil)
            obtain ⟨-, c⟩ := h0 r hr hmr 5 (by decide) (by decide) hr5
            obtain ⟨c1, -⟩ := c (by decide)
            have hOr := hI.or r hr
            have r13 := hOr.2.2.2.2.2.2.2.2.2.2.1
            have r61 := hOr.2.2.2.2.2.2.2.2.2.2.2.2.2.2.2.2 c1
            have ept : ptL S (sT S 8 13 r).toNat = ptL S y := by
              have el : fLp S (sT S 8 13 r).toNat = fLp S y := by
                unfold fLp
                rw [r61, h61, hr1]
              unfold ptL fPnum
              rw [el]
            have hl := h6 r hr hmr hr5 (fun A => by rw [ept]; exact hcS A)
            have hin : y ∈ ofs (fDv S r) := List.mem_map.mpr ⟨e, he, hey'⟩
            rw [hl, List.mem_singleton] at hin
            have s1 := (h8 r hr c1).2
            have s2 := (h8 q ho (by omega)).2
            rw [← hin] at s1
            rw [hy, Int.toNat_natCast] at s2
            have : r = q := hI.sp.1 r q hr ho (by omega)
            rw [this, h4] at hr5
            have := hz 4 5 (by decide) (by decide) (by omega)
            omega)
          rw [this]; rfl)
        rw [hz0, isum_zero] at e1
        omega
      have hdav : dav S y = sT S 8 2 q := by
        unfold dav
        have hfree : tHeld (fh S) (fch S) 100 y = false := hfree
        rw [if_pos hfree]
        exact hav
      have hcand : dCand S q (sn S 6) = y :: (List.range (sn S 6)).filter (fun l => decide (sT S 6 1 l = sT S 8 1 q ∧ (l : Int) ≠ sT S 8 13 q)) := by
        unfold dCand
        rw [if_neg (by omega), hy, Int.toNat_natCast]
        rfl
      rw [hes, hcand, dPl_one hI hOo.2.2.1.1 hdav (fun l hl => List.mem_range.mp (List.mem_filter.mp hl).1)]
      unfold ofs
      rw [List.map_cons, List.map_nil, Int.toNat_natCast]
    · rw [h87 q e] at h5
      exact i6_at g hI h0 h6 hq hm h5 hc
end ZF17
