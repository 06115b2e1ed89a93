/-! THE SIMULATION: all pieces of a promise are taken out of their lots -/
set_option maxRecDepth 100000
theorem fRelN_succ {X : hS} {o p : Nat} {t : Int} (h : (sE X 26 (fOL X o))[p]? = some t) : fRelN X o (p + 1) = fRelStep o (fRelN X o p) t := by
  unfold fRelN
  rw [take_snoc h, List.foldl_append]
  rfl
theorem mRelN_succ {Y : hS} {o p : Nat} {q : Int × Int} (h : (mZs Y o)[p]? = some q) : mRelN Y o (p + 1) = mRelStep o (mRelN Y o p) q := by
  unfold mRelN
  rw [take_snoc h, List.foldl_append]
  rfl
/-- pieces of lot l among the first p -/
abbrev plT (X : hS) (o p l : Nat) : Int := pl ((fTl X o).take p) l
theorem plT_succ {X : hS} {o p l : Nat} {t : Int} (h : (sE X 26 (fOL X o))[p]? = some t) (h0 : 0 ≤ sT X 7 0 t.toNat) : plT X o (p + 1) l = plT X o p l + if l = fLotOf X t then sT X 7 1 t.toNat else 0 := by
  have e : (fTl X o)[p]? = some (sT X 7 0 t.toNat, sT X 7 1 t.toNat) := by
    unfold fTl
    rw [List.getElem?_map, h]
    rfl
  unfold plT
  rw [take_snoc e, pl_app, pl_cons, pl_nil]
  by_cases w : l = fLotOf X t
  · rw [if_pos w, if_pos (show (sT X 7 0 t.toNat, sT X 7 1 t.toNat).1 = (l : Int) by show sT X 7 0 t.toNat = l; rw [w]; unfold fLotOf; omega)]
    show _ + (sT X 7 1 t.toNat + 0) = _
    omega
  · rw [if_neg w, if_neg (show ¬ (sT X 7 0 t.toNat, sT X 7 1 t.toNat).1 = (l : Int) by show ¬ sT X 7 0 t.toNat = l; intro e2; apply w; unfold fLotOf; omega)]
    omega
theorem plT_le {X : hS} {o p l : Nat} (h : ∀ q ∈ fTl X o, 0 ≤ q.2) : plT X o p l ≤ pl (fTl X o) l := by
  have e : fTl X o = (fTl X o).take p ++ (fTl X o).drop p := (List.take_append_drop p _).symm
  have e2 := congrArg (fun L => pl L l) e
  simp only [pl_app] at e2
  have := pl_nn (l := l) (L := (fTl X o).drop p) (fun q hq => h q (List.mem_of_mem_drop hq))
  unfold plT
  omega
section ZBU2
variable {z : Nat → Nat} {k o : Nat} {X Y : hS}
/-- what the first p pieces do -/
def relF (X : hS) (o p : Nat) (T : hS) : Prop := (∀ l : Nat, sT T 6 5 l = sT X 6 5 l - plT X o p l) ∧ (∀ l : Nat, sT T 6 4 l = sT X 6 4 l - plT X o p l) ∧ (∀ l : Nat, l < sn X 6 → 0 ≤ sT T 6 6 l ∧ sT T 6 6 l ≤ sT X 6 6 l) ∧ (∀ t : Nat, t < sn X 7 → 0 ≤ sT T 7 2 t) ∧ sT X 8 10 o ≤ sT T 8 10 o ∧
  isum (sn X 6) (fun l => sT T 6 6 l) + sT T 8 10 o = isum (sn X 6) (fun l => sT X 6 6 l) + sT X 8 10 o ∧ ∀ t : Nat, (∀ u ∈ sE X 26 (fOL X o), t ≠ u.toNat) → sT T 7 2 t = sT X 7 2 t
theorem relN (hR : rR z X Y) (hI : iAll z k X) (hD : iDj X) (ho : o < sn X 8) (hst : sT X 8 7 o = (z 1 : Nat)) : ∀ p : Nat, p ≤ (sE X 26 (fOL X o)).length → rR z (fRelN X o p) (mRelN Y o p) ∧ relF X o p (fRelN X o p) := by
  have o5 := (hI.or o ho).2.2.2.2.2.1
  have tk : ∀ t ∈ sE X 26 (fOL X o), t.toNat < sn X 7 ∧ (0 ≤ sT X 7 0 t.toNat ∧ sT X 7 0 t.toNat < sn X 6) ∧ (1 ≤ sT X 7 1 t.toNat ∧ sT X 7 1 t.toNat ≤ 500) := fun t ht => by
    have h := hI.tk.1 (fOL X o) (by unfold fOL; omega) t ht
    exact ⟨by omega, hI.tk.2.2 t.toNat (by omega)⟩
  have tn : ∀ q ∈ fTl X o, 0 ≤ q.2 := fun q hq => by
    obtain ⟨t, ht, rfl⟩ := List.mem_map.mp hq
    have := (tk t ht).2.2
    show 0 ≤ sT X 7 1 t.toNat
    omega
  have b1 : fPr z X o = true := decide_eq_true hst
  have full : ∀ l : Nat, l < sn X 6 → pl (fTl X o) l ≤ sT X 6 4 l := fun l hl => by
    obtain ⟨a1, a2, -⟩ := hI.res l hl
    have := isum_ge (n := sn X 8) (j := o) (f := fun q => if fPr z X q = true then pl (fTl X q) l else 0) (fun q hq => by
      show 0 ≤ (if fPr z X q = true then pl (fTl X q) l else 0)
      split
      · exact pl_nn (fun x hx => by
          obtain ⟨t, ht, rfl⟩ := List.mem_map.mp hx
          have h5 := (hI.or q hq).2.2.2.2.2.1
          have h := hI.tk.1 (fOL X q) (by unfold fOL; omega) t ht
          have := (hI.tk.2.2 t.toNat (by omega)).2
          show 0 ≤ sT X 7 1 t.toNat
          omega)
      · exact Int.le_refl _) ho
    have e : (if fPr z X o = true then pl (fTl X o) l else 0) = pl (fTl X o) l := if_pos b1
    simp only [e] at this
    omega
  have hT := (hR.O.2 o ho).2.2.1
  intro p
  induction p with
  | zero =>
    intro _
    refine ⟨hR, fun l => ?_, fun l => ?_, fun l hl => ⟨hI.co.1 l hl, Int.le_refl _⟩, fun t ht => hI.co.2.2.1 t ht, Int.le_refl _, rfl, fun t _ => rfl⟩
    · show _ = _ - pl [] l
      rw [pl_nil]
      exact (Int.sub_zero _).symm
    · show _ = _ - pl [] l
      rw [pl_nil]
      exact (Int.sub_zero _).symm
  | succ p ih =>
    intro hp
    obtain ⟨r0, h1, h2, h3, h4, h5, h6, h7⟩ := ih (by omega)
    have ht : (sE X 26 (fOL X o))[p]? = some ((sE X 26 (fOL X o))[p]'(by omega)) := List.getElem?_eq_getElem (by omega)
    generalize (sE X 26 (fOL X o))[p]'(by omega) = t at ht
    have htm : t ∈ sE X 26 (fOL X o) := List.mem_of_getElem? ht
    obtain ⟨k1, k2, k3⟩ := tk t htm
    have hzl : (mZs Y o).length = (sE X 26 (fOL X o)).length := by
      have e := congrArg List.length hT.1
      unfold mTl fTl at e
      rw [List.length_map, List.length_map] at e
      exact e
    have hq : (mZs Y o)[p]? = some ((mZs Y o)[p]'(by omega)) := List.getElem?_eq_getElem (by omega)
    generalize (mZs Y o)[p]'(by omega) = q at hq
    have hqt : (q.1, sT Y 19 0 q.2.toNat) = (sT X 7 0 t.toNat, sT X 7 1 t.toNat) := by
      have e := congrArg (fun L => L[p]?) hT.1
      unfold mTl fTl at e
      simp only [List.getElem?_map, ht, hq, Option.map_some] at e
      exact Option.some.inj e
    have q1 : q.1 = sT X 7 0 t.toNat := congrArg Prod.fst hqt
    have q2 : sT Y 19 0 q.2.toNat = sT X 7 1 t.toNat := congrArg Prod.snd hqt
    rw [fRelN_succ ht, mRelN_succ hq]
    -- what of T is as in X
    have T70 : sT (fRelN X o p) 7 0 t.toNat = sT X 7 0 t.toNat := fRel_sT (by omega) (by omega) (by omega)
    have T71 : sT (fRelN X o p) 7 1 t.toNat = sT X 7 1 t.toNat := fRel_sT (by omega) (by omega) (by omega)
    have Tl : fLotOf (fRelN X o p) t = fLotOf X t := by unfold fLotOf; rw [T70]
    have TD : ∀ x : Nat, fDelL (fRelN X o p) x = fDelL X x := fun x => congrArg Int.toNat (fRel_sT (by omega) (by omega) (by omega))
    have T6 : sn (fRelN X o p) 6 = sn X 6 := fRel_sn
    have T8 : sn (fRelN X o p) 8 = sn X 8 := fRel_sn
    have Y19 : sT (mRelN Y o p) 19 0 q.2.toNat = sT Y 19 0 q.2.toNat := by
      unfold mRelN
      exact fold_keep (f := mRelStep o) (fun S => sT S 19 0 q.2.toNat) (fun S x => mrl_T (by decide) (by omega)) _ Y
    have hlt : fLotOf X t < sn X 6 := by unfold fLotOf; omega
    have r1 := relStep (X := fRelN X o p) (Y := mRelN Y o p) (o := o) (t := t) (q := q) r0 (fun x hx u hu => by
      rw [TD, fRel_sE] at hu
      exact hD o x ho (by rw [T8] at hx; exact hx) t htm u hu) (by rw [Tl, T6]; exact hlt) (by rw [Tl, q1]; rfl) (by rw [Y19, q2, T71]) (by rw [T8]; exact ho)
    refine ⟨r1, ?_⟩
    generalize hTT : fRelN X o p = T at *
    have ps := fun l : Nat => plT_succ (l := l) ht k2.1
    -- the cost
    have e4 : sT T 6 4 (fLotOf X t) = sT X 6 4 (fLotOf X t) - plT X o p (fLotOf X t) := h2 _
    have hp1 := ps (fLotOf X t)
    rw [if_pos rfl] at hp1
    have hp2 := plT_le (p := p + 1) (l := fLotOf X t) tn
    have hp3 := full _ hlt
    have h66 := h3 _ hlt
    have eC : fCost T t.toNat = sT T 6 6 (fLotOf X t) * sT X 7 1 t.toNat / sT T 6 4 (fLotOf X t) := by
      have e : fLotOf T ((t.toNat : Nat) : Int) = fLotOf X t := by
        have : fLotOf T ((t.toNat : Nat) : Int) = fLotOf T t := by unfold fLotOf; rw [Int.toNat_natCast]
        rw [this, Tl]
      unfold fCost
      rw [e, T71]
    have hC : 0 ≤ fCost T t.toNat ∧ fCost T t.toNat ≤ sT T 6 6 (fLotOf X t) := by
      rw [eC]
      have hpos : 0 < sT T 6 4 (fLotOf X t) := by omega
      have hmul : 0 ≤ sT T 6 6 (fLotOf X t) * sT X 7 1 t.toNat := Int.mul_nonneg h66.1 (by omega)
      refine ⟨Int.ediv_nonneg hmul (by omega), ?_⟩
      have hle : sT T 6 6 (fLotOf X t) * sT X 7 1 t.toNat ≤ sT T 6 6 (fLotOf X t) * sT T 6 4 (fLotOf X t) := Int.mul_le_mul_of_nonneg_left (by omega) h66.1
      exact Int.le_trans (Int.ediv_le_ediv hpos hle) (by rw [Int.mul_ediv_cancel _ (by omega)]; exact Int.le_refl _)
    refine ⟨fun l => ?_, fun l => ?_, fun l hl => ?_, fun x hx => ?_, ?_, ?_, fun x hx => ?_⟩
    · rw [rl_65, Tl, T71, ps l]
      by_cases e : l = fLotOf X t
      · rw [if_pos e, if_pos e, h1 l]; omega
      · rw [if_neg e, if_neg e, h1 l]; omega
    · rw [rl_64, Tl, T71, ps l]
      by_cases e : l = fLotOf X t
      · rw [if_pos e, if_pos e, h2 l]; omega
      · rw [if_neg e, if_neg e, h2 l]; omega
    · rw [rl_66, Tl]
      have := h3 l hl
      by_cases e : l = fLotOf X t
      · rw [if_pos e]
        rw [← e] at hC
        omega
      · rw [if_neg e]; exact this
    · rw [rl_72]
      split
      · exact hC.1
      · exact h4 x hx
    · rw [rl_810]; omega
    · have e : isum (sn X 6) (fun l => sT (fRelStep o T t) 6 6 l) = isum (sn X 6) (fun l => sT T 6 6 l) + - fCost T t.toNat := by
        refine isum_up (j := fLotOf X t) ?_ (fun l hl => ?_) hlt
        · show sT (fRelStep o T t) 6 6 _ = sT T 6 6 _ + - _
          rw [rl_66, Tl, if_pos rfl]; omega
        · show sT (fRelStep o T t) 6 6 l = sT T 6 6 l
          rw [rl_66, Tl, if_neg hl]
      rw [e, rl_810]
      omega
    · rw [rl_72, if_neg (hx t htm)]
      exact h7 x hx
end ZBU2
