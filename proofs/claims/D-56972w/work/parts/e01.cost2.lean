/-! THE ROOM: what a promise costs, component by component -/
set_option maxRecDepth 100000
/-- the walks of a component's lots -/
def wC (S : hS) (j : Int) : Nat := ns (sn S 6) (fWalk S (sT S 4 0 j.toNat))
def cW (S : hS) (o p : Nat) : Nat := (((fComps S o).take p).map (wC S)).sum
section ZE1
variable {z : Nat → Nat} {k o l m : Nat} {S T X Y : hS} {pt n : Int}
theorem rsP.noLot (hz : zInj z) (P : rsP z k o X Y) : noLot X (fOL X o) := fun l hl e => by
  obtain ⟨-, hI, -, -, ho, hst⟩ := P
  have h3 := (hI.lo l hl).2.2.2.1
  have h5 := (hI.or o ho).2.2.2.2.2.1
  have e2 : sT X 6 3 l = sT X 8 5 o := by unfold fOL at e; omega
  rcases hI.sp.2.2.1 l o hl ho e2 with w | w
  · have := hz 1 4 (by decide) (by decide) (by omega)
    omega
  · have := hz 1 5 (by decide) (by decide) (by omega)
    omega
theorem ranC (hz : zInj z) (P : rsP z k o X Y) (hmd : (sT X 8 1 o).toNat % 2 = 0) (hem : sE X 26 (fOL X o) = []) : ∀ p : Nat, p ≤ (fComps X o).length →
    (fRAN X o p).2.2.1 ≤ 1 + cW X o p + 2 * p + 2 * (sE (fRAN X o p).1 26 (fOL X o)).length ∧ (mRAN Y o p).2.2.1 ≤ 1 + cW X o p + 3 * (sE (fRAN X o p).1 26 (fOL X o)).length ∧ (sE (fRAN X o p).1 26 (fOL X o)).length ≤ p * sn X 6 := by
  obtain ⟨hcm, hc4⟩ := P.comps hmd
  have hnl := P.noLot hz
  have hI0 := P.2.1
  obtain ⟨q1, q2⟩ := hI0.cp1 P.2.2.2.2.1 hmd
  intro p
  induction p with
  | zero =>
    intro _
    refine ⟨by show 1 ≤ _; omega, by show 1 ≤ _; omega, ?_⟩
    show (sE X 26 (fOL X o)).length ≤ 0 * _
    rw [hem]; exact Nat.zero_le _
  | succ p ih =>
    intro hp
    obtain ⟨h1, h2, h3, h4, -⟩ := pairRAN hz P hmd hem p (by omega)
    obtain ⟨hG, -⟩ := ranG (S := X) (o := o) hem q1 q2 p (by omega)
    obtain ⟨g1, g2, g3⟩ := ih (by omega)
    have hkk : (fComps X o)[p]? = some ((fComps X o)[p]'(by omega)) := List.getElem?_eq_getElem (by omega)
    generalize hK : (fComps X o)[p]'(by omega) = kk at hkk
    have hlm : (mComps Y o).length = (fComps X o).length := by
      have e := congrArg List.length hcm
      rw [List.length_map, List.length_map] at e
      exact e
    have hjj : (mComps Y o)[p]? = some ((mComps Y o)[p]'(by omega)) := List.getElem?_eq_getElem (by omega)
    generalize hJ : (mComps Y o)[p]'(by omega) = jj at hjj
    have hc : sE Y 46 jj.toNat = [sT X 4 0 kk.toNat, sT X 4 1 kk.toNat, sT X 4 2 kk.toNat] := by
      have e := congrArg (fun L => L[p]?) hcm
      simp only [List.getElem?_map, hkk, hjj, Option.map_some] at e
      exact Option.some.inj e
    have hcw : cW X o (p + 1) = cW X o p + wC X kk := by
      unfold cW
      rw [take_snoc hkk, List.map_append, List.sum_append]
      rfl
    have e1 : (p + 1) * sn X 6 = p * sn X 6 + sn X 6 := by rw [Nat.add_mul, Nat.one_mul]
    rw [fRAN_succ hkk, mRAN_succ hjj, hcw, e1]
    generalize hF : fRAN X o p = F at *
    generalize hM : mRAN Y o p = M at *
    obtain ⟨XF, tF, aF, bF⟩ := F
    obtain ⟨YM, tM, aM, bM⟩ := M
    simp only at h1 h2 h3 h4 hG g1 g2 g3
    subst h2
    have eo : fOL XF o = fOL X o := h3.ol
    have n6 : sn XF 6 = sn X 6 := h3.2.1
    have k4 : ∀ j i : Nat, sT XF 4 j i = sT X 4 j i := fun j i => (h3.1 4 (by decide)).2.1 j i
    have k46 : ∀ i : Nat, sE YM 46 i = sE Y 46 i := fun i => (h3.2.2.1 46 (by decide)).2.2 i
    have c0 : mCp YM jj.toNat 0 = sT XF 4 0 kk.toNat := by unfold mCp; rw [k46, hc, k4]; rfl
    have c1 : mCp YM jj.toNat 1 = sT XF 4 1 kk.toNat := by unfold mCp; rw [k46, hc, k4]; rfl
    have c2 : mCp YM jj.toNat 2 = sT XF 4 2 kk.toNat := by unfold mCp; rw [k46, hc, k4]; rfl
    have hOa := (h1.1.O.2 o h1.2.2.2.2.1).1
    have hfor : mFor YM jj.toNat (sT YM 15 3 o) = fFor XF kk.toNat (sT XF 8 3 o) := by
      unfold mFor fFor
      rw [c2, hOa.2.2.1]
    have h66 : sn YM 14 = sn XF 6 := h1.1.L.1
    have wk : ns (sn XF 6) (fWalk XF (sT XF 4 0 kk.toNat)) = wC X kk := by
      unfold wC
      rw [n6, k4]
      exact ns_cg (fun i hi => hG.walk hI0.lo hI0.tk hI0.chlt hnl hi)
    cases tF with
    | false =>
      have eF : fRAstep o (fOL X o) (XF, false, aF, bF) kk = (XF, false, aF, bF) := by unfold fRAstep; exact if_pos rfl
      have eM : mRAstep o (YM, false, aM, bM) jj = (YM, false, aM, bM) := by unfold mRAstep; exact if_pos rfl
      rw [eF, eM]
      simp only
      exact ⟨by omega, by omega, by omega⟩
    | true =>
      by_cases hf : fFor XF kk.toNat (sT XF 8 3 o) = true
      · have eF : fRAstep o (fOL X o) (XF, true, aF, bF) kk = ((fResN XF (fOL X o) (sT XF 4 0 kk.toNat) (sT XF 8 2 o * sT XF 4 1 kk.toNat) (sn XF 6)).1, decide ((fResN XF (fOL X o) (sT XF 4 0 kk.toNat) (sT XF 8 2 o * sT XF 4 1 kk.toNat) (sn XF 6)).2.1 ≤ 0), aF + (fResN XF (fOL X o) (sT XF 4 0 kk.toNat) (sT XF 8 2 o * sT XF 4 1 kk.toNat) (sn XF 6)).2.2.1 + 1, bF + (fResN XF (fOL X o) (sT XF 4 0 kk.toNat) (sT XF 8 2 o * sT XF 4 1 kk.toNat) (sn XF 6)).2.2.2 + 6) := by
          unfold fRAstep
          exact (if_neg (show ¬ (true : Bool) = false by decide)).trans (if_pos hf)
        have eD : mDue YM o jj.toNat = sT XF 8 2 o * sT XF 4 1 kk.toNat := by
          unfold mDue
          rw [hfor, if_pos hf, c1, hOa.2.1]
        have eM : mRAstep o (YM, true, aM, bM) jj = ((mResN YM o (sT XF 4 0 kk.toNat) (sT XF 8 2 o * sT XF 4 1 kk.toNat) (sn XF 6)).1, decide ((mResN YM o (sT XF 4 0 kk.toNat) (sT XF 8 2 o * sT XF 4 1 kk.toNat) (sn XF 6)).2.1 ≤ 0), aM + (mResN YM o (sT XF 4 0 kk.toNat) (sT XF 8 2 o * sT XF 4 1 kk.toNat) (sn XF 6)).2.2.1, bM + (mResN YM o (sT XF 4 0 kk.toNat) (sT XF 8 2 o * sT XF 4 1 kk.toNat) (sn XF 6)).2.2.2) := by
          rw [← eD, ← c0, ← h66]
          unfold mRAstep
          exact if_neg (show ¬ (true : Bool) = false by decide)
        have hIF := h1.2.1
        have n100 := hIF.n6
        have hn0 : 0 ≤ sT XF 8 2 o * sT XF 4 1 kk.toNat := by
          have e8 : sT XF 8 2 o = sT X 8 2 o := (h3.1 8 (by decide)).2.1 2 o
          have := q2 kk (List.mem_of_getElem? hkk)
          rw [e8, k4]
          exact Int.mul_nonneg (by omega) (by omega)
        have hm : ∀ t ∈ sE XF 26 (fOL XF o), t.toNat < sn XF 7 := fun t ht => by
          have h5 := (hIF.or o h1.2.2.2.2.1).2.2.2.2.2.1
          have := hIF.tk.1 (fOL XF o) (by unfold fOL; omega) t ht
          omega
        have hnF : noLot XF (fOL XF o) := h1.noLot hz
        have cF := fResC (pt := sT XF 4 0 kk.toNat) hIF.lo hIF.tk hIF.chlt hm hnF hn0 (sn XF 6) (Nat.le_refl _)
        have cM := mResC (pt := sT XF 4 0 kk.toNat) hz h1 (by rw [eo]; omega) hIF.lo hIF.tk hIF.chlt hm hnF hn0 (sn XF 6) (Nat.le_refl _)
        have cL := fResL (S := XF) (m := fOL X o) (pt := sT XF 4 0 kk.toNat) (n := sT XF 8 2 o * sT XF 4 1 kk.toNat) (sn XF 6)
        rw [eo, wk] at cF cM
        rw [eF, eM]
        simp only
        exact ⟨by omega, by omega, by omega⟩
      · have eF : fRAstep o (fOL X o) (XF, true, aF, bF) kk = (XF, true, aF, bF) := by
          unfold fRAstep
          exact (if_neg (show ¬ (true : Bool) = false by decide)).trans (if_neg hf)
        have eD : mDue YM o jj.toNat = 0 := by
          unfold mDue
          rw [hfor, if_neg hf]
        have eM : mRAstep o (YM, true, aM, bM) jj = (YM, true, aM, bM) := by
          have e : mRAstep o (YM, true, aM, bM) jj = ((mResN YM o (mCp YM jj.toNat 0) (mDue YM o jj.toNat) (sn YM 14)).1, decide ((mResN YM o (mCp YM jj.toNat 0) (mDue YM o jj.toNat) (sn YM 14)).2.1 ≤ 0), aM + (mResN YM o (mCp YM jj.toNat 0) (mDue YM o jj.toNat) (sn YM 14)).2.2.1, bM + (mResN YM o (mCp YM jj.toNat 0) (mDue YM o jj.toNat) (sn YM 14)).2.2.2) := by
            unfold mRAstep
            exact if_neg (show ¬ (true : Bool) = false by decide)
          rw [e, eD, mResN_zero]
          rfl
        rw [eF, eM]
        simp only
        exact ⟨by omega, by omega, by omega⟩
end ZE1
